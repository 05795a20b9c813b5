section GMI
variable {p : Program} {l : Launch} {e : Env} {R : Room} {s : State} {m : MethodId} {args : Array Value} {below : List Frame} {meth : Method} {c : Code} {D : gD} {K : gK} {nL u0 : Nat} {Q : State → Prop} {S : gS} {pc : Nat} {lv : List (Nat × Value)} {st : List Value} {own : String} {cc : ByteArray} {ret : Option FieldType} {hh : List (Nat × Nat × Nat × Nat)} {nm : String}
/-- Object.<init> -/
theorem g_objInit (C : gCx p l R s m args meth c D K own cc nL ret hh nm u0) {idx : Nat} {r : Option Nat} (d : decode cc pc = .ok (.invokespecial idx, 3)) (hi : r.isSome = true) (hlk : Cond.methodLink own idx Lib.objectInit ∈ lw_all) (hin : Cond.instanceMethod Lib.objectInit ∈ lw_all) (hco : Cond.code Lib.objectInit ⟨#[0xb1]⟩ 1 none ∈ lw_all) (hR : 1 ≤ R.frames ∧ 20 ≤ R.locals) (hc : (st.map fun v => v.category).sum ≤ 8)
    (k : gW p l e R s m args below meth c D K nL u0 Q S (pc + 3) lv st) : gW p l e R s m args below meth c D K nL u0 Q S pc lv (va_rf r :: st) := by
  intro H locs ls hH hS hu hl
  obtain ⟨b, rfl⟩ := Option.isSome_iff_exists.mp hi
  refine W.objInit C.1 C.2.1 C.2.2.2.1 (C.2.2.2.2.2.2.2.1 _ hlk) (C.2.2.2.2.2.2.2.1 _ hin) (C.2.2.2.2.2.2.2.1 _ hco) rfl (by rw [C.2.2.1]; exact hl.1) rfl d hR.1 ?_ (k H locs ls hH hS hu hl)
  have := g_mr (m := m) (pc := pc) (va_rf (some b) :: st) (ls := ls) hc
  exact Nat.le_trans (Nat.add_le_add_right this 12) hR.2
/-- a cast that holds: the object's class is that class or castable to it -/
theorem g_cast (C : gCx p l R s m args meth c D K own cc nL ret hh nm u0) {idx : Nat} {E : String} {cs : List Nat} {r : Option Nat} (d : decode cc pc = .ok (.checkcast idx, 3)) (hcl : Cond.classLink own idx E ∈ lw_all) (hcs : ∀ ci : Nat, cs.contains ci = true → ∃ r1 : vw_C, gCl[ci]? = some r1 ∧ (r1.1 = E ∨ Cond.castable r1.1 E ∈ lw_tbl)) (hr : oIs cs r S = true)
    (k : gW p l e R s m args below meth c D K nL u0 Q S (pc + 3) lv (va_rf r :: st)) : gW p l e R s m args below meth c D K nL u0 Q S pc lv (va_rf r :: st) := by
  intro H locs ls hH hS hu hl
  obtain ⟨b, b9, ci, fs, rfl, hM, hci⟩ := oIs_obj hr
  obtain ⟨r1, hr1, cell, q1, q2, q3, q4, -⟩ := g_recv C hH hM
  obtain ⟨r2, hr2, hca⟩ := hcs ci hci
  cases hr1.symm.trans hr2
  have hrec : ∃ cell : Cell, H[b]? = some cell ∧ cell.vm.isStatics = false ∧ s.vm.findClass r1.1 = some cell.cls := ⟨cell, q1, q2, by rw [q3]; exact q4.1⟩
  rcases hca with he | he
  · rw [he] at hrec q4
    exact va_castS C.1 C.2.1 C.2.2.2.1 (C.2.2.2.2.2.2.2.1 _ hcl) q4 hrec d (k H locs ls hH hS hu hl)
  · exact va_castY C.1 C.2.1 C.2.2.2.1 (C.2.2.2.2.2.2.2.1 _ hcl) (C.2.2.2.2.2.2.2.2.1.2.1 _ he rfl) hrec d (k H locs ls hH hS hu hl)
theorem g_inst (C : gCx p l R s m args meth c D K own cc nL ret hh nm u0) {idx : Nat} {E : String} {cs : List Nat} {r : Option Nat} (d : decode cc pc = .ok (.instanceof idx, 3)) (hcl : Cond.classLink own idx E ∈ lw_all) (hcs : ∀ ci : Nat, cs.contains ci = true → ∃ r1 : vw_C, gCl[ci]? = some r1 ∧ r1.1 = E) (hr : oIs cs r S = true)
    (k : gW p l e R s m args below meth c D K nL u0 Q S (pc + 3) lv (.int 1 :: st)) : gW p l e R s m args below meth c D K nL u0 Q S pc lv (va_rf r :: st) := by
  intro H locs ls hH hS hu hl
  obtain ⟨b, b9, ci, fs, rfl, hM, hci⟩ := oIs_obj hr
  obtain ⟨r1, hr1, cell, q1, q2, q3, q4, -⟩ := g_recv C hH hM
  obtain ⟨r2, hr2, hca⟩ := hcs ci hci
  cases hr1.symm.trans hr2
  subst hca
  exact va_instE C.1 C.2.1 C.2.2.2.1 (C.2.2.2.2.2.2.2.1 _ hcl) ⟨cell, q1, q2, by rw [q3]; exact q4.1⟩ d (k H locs ls hH hS hu hl)
/-- a static of the old heap -/
theorem g_gets (C : gCx p l R s m args meth c D K own cc nL ret hh nm u0) {idx : Nat} {Cs n ds : String} {v : Value} (d : decode cc pc = .ok (.getstatic idx, 3)) (hZ : va_Z Cs n ds v (gA K) s s.heap) (hlk : Cond.fieldLink own idx Cs n ds ∈ lw_all)
    (k : gW p l e R s m args below meth c D K nL u0 Q S (pc + 3) lv (v :: st)) : gW p l e R s m args below meth c D K nL u0 Q S pc lv st :=
  fun H locs ls hH hS hu hl => va_gets C.1 C.2.1 hZ hS C.2.2.2.1 (C.2.2.2.2.2.2.2.1 _ hlk) (fun _ h => h) d (k H locs ls hH hS hu hl)
theorem g_getsC (C : gCx p l R s m args meth c D K own cc nL ret hh nm u0) {idx : Nat} (d : decode cc pc = .ok (.getstatic idx, 3)) (hlk : Cond.fieldLink own idx "java/lang/String" "COMPACT_STRINGS" "Z" ∈ lw_all)
    (k : gW p l e R s m args below meth c D K nL u0 Q S (pc + 3) lv (.int 1 :: st)) : gW p l e R s m args below meth c D K nL u0 Q S pc lv st := g_gets C d C.2.2.2.2.2.2.2.2.1.2.2.2.2.1 hlk k
theorem g_getsU (C : gCx p l R s m args meth c D K own cc nL ret hh nm u0) {idx : Nat} (d : decode cc pc = .ok (.getstatic idx, 3)) (hlk : Cond.fieldLink own idx Bundle.tN "UNASSIGNED_STACK" Bundle.steD ∈ lw_all)
    (k : gW p l e R s m args below meth c D K nL u0 Q S (pc + 3) lv (va_rf (S.2.2.2.2.2 0) :: st)) : gW p l e R s m args below meth c D K nL u0 Q S pc lv st := by
  intro H locs ls hH hS hu hl
  have e9 : S.2.2.2.2.2 0 = K.2.2 0 := by rw [hH.1]
  rw [e9] at k
  exact g_gets (Q := Q) (below := below) (e := e) (S := S) (lv := lv) (st := st) (u0 := u0) C d C.2.2.2.2.2.2.2.2.1.2.2.2.2.2.1.1 hlk k H locs ls hH hS hu hl
theorem g_getsN (C : gCx p l R s m args meth c D K own cc nL ret hh nm u0) {idx : Nat} (d : decode cc pc = .ok (.getstatic idx, 3)) (hlk : Cond.fieldLink own idx Bundle.tN "SUPPRESSED_SENTINEL" Bundle.listD ∈ lw_all)
    (k : gW p l e R s m args below meth c D K nL u0 Q S (pc + 3) lv (va_rf (S.2.2.2.2.2 1) :: st)) : gW p l e R s m args below meth c D K nL u0 Q S pc lv st := by
  intro H locs ls hH hS hu hl
  have e9 : S.2.2.2.2.2 1 = K.2.2 1 := by rw [hH.1]
  rw [e9] at k
  exact g_gets (Q := Q) (below := below) (e := e) (S := S) (lv := lv) (st := st) (u0 := u0) C d C.2.2.2.2.2.2.2.2.1.2.2.2.2.2.2.1.1 hlk k H locs ls hH hS hu hl
/-! ===== exceptions ===== -/
theorem gZq {n d : String} {v : Option Nat} {A : Nat → Prop} {U : State} {H : Heap} (h : va_Z Bundle.tN n d (va_rf v) A U H ∧ vx_L Bundle.tN n d A U H) : vx_Zq Bundle.tN n d A U H := by
  refine ⟨?_, h.2⟩
  cases v with
  | none => exact Or.inl h.1
  | some t => exact Or.inr ⟨t, h.1⟩
theorem oExc_obj {ci : Nat} {S S1 : gS} {q : Nat} (h : oExc ci S = some (q, S1)) : q = S.2.1 ∧ S1 = gPush (true, .inl (ci, [])) 6 S ∧ S.2.1 + 1 ≤ gLim S.2.2.2 ∧ S.2.2.1 + 6 ≤ gUB := by
  unfold oExc at h
  split at h
  · rename_i hc
    cases h
    exact ⟨rfl, rfl, hc.1, hc.2⟩
  · cases h
/-- new E(); all three instructions -/
theorem g_exc (C : gCx p l R s m args meth c D K own cc nL ret hh nm u0) {ρ : Type} {ci ik ic : Nat} {cls : String} {T0 : u_T} {names : List String} {f : Nat → gS → Option ρ} {o : ρ} (d0 : decode cc pc = .ok (.new ik, 3)) (d3 : decode cc (pc + 3) = .ok (.dup, 1)) (d4 : decode cc (pc + 4) = .ok (.invokespecial ic, 3)) (hci : gCl[ci]? = some (cls, T0, 0))
    (hcls : Bundle.fit cls = true) (hnames : ∀ n ∈ names, Bundle.fit n = true) (hk : Cond.classLink own ik cls ∈ lw_all) (hini : Cond.initialized cls ∈ lw_all) (hat : ∀ w ∈ vx_at0 own ic cls names, w ∈ lw_tbl ∧ (goodWord w = true ∨ gCw w = true)) (hgood : ∀ w ∈ Cond.classLink own ik cls :: Cond.initialized cls :: vx_at0 own ic cls names, vx_ot w = true)
    (hR : names.length + 3 < R.frames ∧ 8 + (13 * (names.length + 1) + 42) ≤ R.locals) (hc : (st.map fun v => v.category).sum ≤ 8) (hF : gB (oExc ci S) f = some o)
    (kk : ∀ q S1, f q S1 = some o → gW p l e R s m args below meth c D K nL u0 Q S1 (pc + 7) lv (va_rf (some q) :: st)) : gW p l e R s m args below meth c D K nL u0 Q S pc lv st := by
  intro H locs ls hH hS hu hl
  obtain ⟨q, S1, h1, h2⟩ := gB_some hF
  obtain ⟨hq, hS1, hb1, hb2⟩ := oExc_obj h1
  rw [hH.1] at hb1
  have hsz := gSz hH hS
  have hts := C.2.2.2.2.2.2.2.1
  have hX := C.2.2.2.2.2.2.2.2.1
  refine vx_make0x (names := names) C.1 C.2.1 C.2.2.2.2.2.2.2.2.2.2.2.1 C.2.2.2.1 hcls hnames (hts _ hk) (hts _ hini) (fun w hw => ?_) hgood (gZq hX.2.2.2.2.2.1) (gZq hX.2.2.2.2.2.2.1) hS (by rw [hl.1, C.2.2.1]) d0 d3 d4 hR.1 (Nat.le_trans (Nat.add_le_add_right hc _) hR.2) (by rw [C.2.2.2.2.2.2.2.2.2.1]; exact g_rm hsz hb1) (by rw [C.2.2.2.2.2.2.2.2.2.2.1]; exact g_rm hu hb2) fun H1 ce z2 o2 e1 hvm hcl => ?_
  · obtain ⟨h3, h4 | h4⟩ := hat w hw
    · exact hts _ (lw_g h3 h4)
    · exact va_Nw.use (gCw_tab h4) (hX.2.1 _ h3 h4)
  · have hKn := hX.1.1 ci _ hci
    have he : gAt D S.2.1 (true, .inl (ci, [])) H1 := gAt.of_tob ⟨_, hci, ce, by rw [← hH.2.1]; exact e1, Option.some.inj (hcl.symm.trans hKn.2.1), hvm, fun k hk => absurd hk (Nat.not_lt_zero k)⟩
    have hH1 : gH D K S1 H1 := by rw [hS1]; exact hH.push (Nat.le_trans hX.2.2.1 hS.1) z2 o2 hb1 hb2 he
    have hk := kk q S1 h2 H1 _ ls hH1 (hS.push z2 o2) (by rw [hS1]; exact Nat.le_trans hu (Nat.le_add_right _ _)) hl
    rw [hS1, hq] at hk
    have hk2 : W p l e R s m args below meth c H1 locs (S.2.1 + 1 - s.heap.size) (S.2.2.1 + 6 - u0) Q (F0 m (pc + 7) ls (.ref S.2.1 :: st)) := hk
    rw [← g_rm2 hsz, ← g_rm2 hu] at hk2
    have e9 : S.2.1 = H.size := hH.2.1.symm
    rw [e9] at hk2 ⊢
    exact hk2
/-- athrow of a cell of the class ci -/
theorem g_athrow (C : gCx p l R s m args meth c D K own cc nL ret hh nm u0) {r : Option Nat} {ci : Nat} (d : decode cc pc = .ok (.athrow, 1)) (hr : oIs [ci] r S = true) (hw : oOwn r S = true) (k : ∀ q, r = some q → gWx p l e R s m args below meth c D K nL u0 Q S pc lv st q ci) : gW p l e R s m args below meth c D K nL u0 Q S pc lv (va_rf r :: st) := by
  intro H locs ls hH hS hu hl
  obtain ⟨b, b9, ci2, fs, rfl, hM, hc⟩ := oIs_obj hr
  have hc2 : ci2 = ci := by simpa using hc
  subst hc2
  obtain ⟨r1, hr1, cell, q1, q2, q3, q4, q5⟩ := g_recv C hH hM
  have hb := oOwn_b hw rfl hM
  subst hb
  exact vx_athrow C.1 C.2.1 d (k b rfl H locs ls r1 cell hH hS hu hl hr1 q1 (q5 rfl) (by rw [q3]; exact q4.1))
/-- no handler here: the method ends so -/
theorem g_out (C : gCx p l R s m args meth c D K own cc nL ret hh nm u0) {out : gO} {S1 : gS} {q ci : Nat} (hcov : (tableOf hh).all (fun x => !covers x pc) = true) (ho : out = .inr (ci, q)) (hSS : S = S1) : gWx p l e R s m args below meth c D K nL u0 (gEnd below args s D K u0 out S1) S pc lv st q ci := by
  intro H locs ls r1 ce hH hS hu hl hr1 hce hvm hcl
  subst hSS
  refine vx_out (E := r1.1) (ce := ce) (fun x hx => ?_) C.2.2.2.2.2.1 hce hvm hcl (fun t ht hW => ⟨⟨ci, r1, ho, hr1, rfl⟩, by rw [ht]; exact hH, hu, hS.F ht⟩) hS.2.2 (Nat.le_refl _) (Nat.le_refl _)
  rw [C.2.2.2.2.2.2.1] at hx
  have h9 := List.all_eq_true.mp hcov x hx
  cases hq : covers x pc with
  | false => rfl
  | true => rw [hq] at h9; cases h9
/-- the first handler that covers the place takes it -/
theorem g_catch (C : gCx p l R s m args meth c D K own cc nL ret hh nm u0) {q ci : Nat} {E name : String} {T : u_T} {N : Nat} (n : Nat) {x : ExceptionTableEntry} (hx : (tableOf hh)[n]? = some x) (hpre : ((tableOf hh).take n).all (fun z => !covers z pc) = true) (hcov : covers x pc = true) (h0 : x.catchType ≠ 0) (hci : gCl[ci]? = some (E, T, N)) (hlk : Cond.classLink own x.catchType name ∈ lw_all) (hcast : Cond.castable E name ∈ lw_tbl)
    (k : gW p l e R s m args below meth c D K nL u0 Q S x.handlerPc lv [va_rf (some q)]) : gWx p l e R s m args below meth c D K nL u0 Q S pc lv st q ci := by
  intro H locs ls r1 ce hH hS hu hl hr1 hce hvm hcl
  cases hr1.symm.trans hci
  have hlt := (List.getElem?_eq_some_iff.mp hx).1
  have hxe := (List.getElem?_eq_some_iff.mp hx).2
  refine vx_catch (name := name) (E := E) (ce := ce) C.2.2.2.1 ((tableOf hh).take n) x ((tableOf hh).drop (n + 1)) ?_ (fun z hz => Or.inl ?_) hcov h0 (C.2.2.2.2.2.2.2.1 _ hlk) (va_Nw.use rfl (C.2.2.2.2.2.2.2.2.1.2.1 _ hcast rfl)) hce hvm hcl (k H locs ls hH hS hu hl)
  · rw [C.2.2.2.2.2.2.1, ← hxe, List.getElem_cons_drop_succ_eq_drop hlt, List.take_append_drop]
  · have h9 := List.all_eq_true.mp hpre z hz
    cases hq : covers z pc with
    | false => rfl
    | true => rw [hq] at h9; cases h9
/-! ===== what F says, taken apart ===== -/
theorem g_caseN {ρ : Type} {x v : Nat} {A B o : ρ} (hF : (if x = v then A else B) = o) (kt : x = v → A = o → gW p l e R s m args below meth c D K nL u0 Q S pc lv st) (kf : ¬ x = v → B = o → gW p l e R s m args below meth c D K nL u0 Q S pc lv st) : gW p l e R s m args below meth c D K nL u0 Q S pc lv st := by
  by_cases h : x = v
  · exact kt h (by rw [if_pos h] at hF; exact hF)
  · exact kf h (by rw [if_neg h] at hF; exact hF)
theorem g_afterT {a : Array Value} {x : Nat × Nat} {rest : List Value} {S1 : gS} (hrun : gRun p l e R s m args below meth c D K nL u0 S pc lv st rest a (.inr x) S1)
    (kx : gWx p l e R s m args below meth c D K nL u0 Q S1 pc lv rest x.2 x.1) : gW p l e R s m args below meth c D K nL u0 Q S pc lv st :=
  g_afterX hrun (fun v2 h => by cases h) (fun ci q h => by cases h; exact kx)
end GMI
def gV {β : Type} (cs : List Nat) (r : Option Nat) (S : gS) (o : Option β) : Option β := if oIs cs r S = true then o else none
def gN {β : Type} (r : Option Nat) (o : Option β) : Option β := if r.isSome = true then o else none
theorem gIf {c : Prop} [Decidable c] {β : Type} {A : Option β} {z : β} (h : (if c then A else none) = some z) : c ∧ A = some z := by
  by_cases hc : c
  · rw [if_pos hc] at h; exact ⟨hc, h⟩
  · rw [if_neg hc] at h; cases h
theorem gV_some {β : Type} {cs : List Nat} {r : Option Nat} {S : gS} {o : Option β} {z : β} (h : gV cs r S o = some z) : oIs cs r S = true ∧ o = some z := gIf h
theorem gN_some {β : Type} {r : Option Nat} {o : Option β} {z : β} (h : gN r o = some z) : r.isSome = true ∧ o = some z := gIf h
theorem gT_cases {α β : Type} {o : Option ((α ⊕ (Nat × Nat)) × gS)} {f : α → gS → Option ((β ⊕ (Nat × Nat)) × gS)} {z : (β ⊕ (Nat × Nat)) × gS} (h : gT o f = some z) : (∃ a S1, o = some (.inl a, S1) ∧ f a S1 = some z) ∨ ∃ x S1, o = some (.inr x, S1) ∧ some (.inr x, S1) = some z := by
  unfold gT at h
  split at h
  · cases h
  · rename_i a S1
    exact Or.inl ⟨a, S1, rfl, h⟩
  · rename_i x S1
    exact Or.inr ⟨x, S1, rfl, h⟩
theorem gC_cases {α β : Type} {o : Option ((α ⊕ (Nat × Nat)) × gS)} {f : α → gS → Option β} {k : Nat → Nat → gS → Option β} {z : β} (h : gC o f k = some z) : (∃ a S1, o = some (.inl a, S1) ∧ f a S1 = some z) ∨ ∃ x S1, o = some (.inr x, S1) ∧ k x.1 x.2 S1 = some z := by
  unfold gC at h
  split at h
  · cases h
  · rename_i a S1
    exact Or.inl ⟨a, S1, rfl, h⟩
  · rename_i x S1
    exact Or.inr ⟨x, S1, rfl, h⟩
def oThrow {α : Type} (ci : Nat) (r : Option Nat) (S : gS) : Option ((α ⊕ (Nat × Nat)) × gS) := match r with
  | none => none
  | some q => if oIs [ci] (some q) S = true ∧ oOwn (some q) S = true then some (.inr (ci, q), S) else none
theorem oThrow_some {α : Type} {ci : Nat} {r : Option Nat} {S : gS} {z : (α ⊕ (Nat × Nat)) × gS} (h : oThrow ci r S = some z) : ∃ q, r = some q ∧ oIs [ci] r S = true ∧ oOwn r S = true ∧ some (.inr (ci, q), S) = some z := by
  cases r with
  | none => cases h
  | some q =>
    obtain ⟨⟨h1, h3⟩, h2⟩ := gIf h
    exact ⟨q, rfl, h1, h3, h2⟩
def gOI (r : Int32 ⊕ (Nat × Nat)) : gO := match r with
  | .inl v => .inl (some (.int v))
  | .inr x => .inr x
def gOJ (r : Int64 ⊕ (Nat × Nat)) : gO := match r with
  | .inl v => .inl (some (.long v))
  | .inr x => .inr x
def gOR (r : (Option Nat) ⊕ (Nat × Nat)) : gO := match r with
  | .inl v => .inl (some (va_rf v))
  | .inr x => .inr x
def gOV (r : Unit ⊕ (Nat × Nat)) : gO := match r with
  | .inl _ => .inl none
  | .inr x => .inr x
/-! ===== what fits a field, an answer ===== -/
def gIsRef (t : FieldType) : Bool := match t with
  | .object _ => true
  | .array _ => true
  | _ => false
theorem nrR (t : FieldType) (r : Option Nat) (h : gIsRef t = true) : narrow t (va_rf r) = va_rf r := by
  cases t <;> first | (cases r <;> rfl) | cases h
theorem fitR (t : FieldType) (r : Option Nat) (h : gIsRef t = true) : fits t (va_rf r) = true := by
  cases t <;> first | (cases r <;> rfl) | cases h
theorem nrZ {x : Int32} (h : x = 0 ∨ x = 1) : narrow .boolean (.int x) = .int x := by
  rcases h with rfl | rfl <;> rfl
theorem ftZ {x : Int32} (h : x = 0 ∨ x = 1) : fits .boolean (.int x) = true := by
  rcases h with rfl | rfl <;> rfl
theorem nrB {x : Int32} (h : x.toInt8.toInt32 = x) : narrow .byte (.int x) = .int x := by
  rw [← h]; exact pk_nb x
theorem ftB {x : Int32} (h : x.toInt8.toInt32 = x) : fits .byte (.int x) = true := by
  rw [← h]; exact pk_fb x
def oPutZ (cs : List Nat) (k : Nat) (r : Option Nat) (x : Int32) (S : gS) : Option gS := if x = 0 ∨ x = 1 then oPut cs k r (.int x) S else none
def oPutB (cs : List Nat) (k : Nat) (r : Option Nat) (x : Int32) (S : gS) : Option gS := if x.toInt8.toInt32 = x then oPut cs k r (.int x) S else none
theorem lva_0 {i : Nat} : lv_args i [] = [] := rfl
theorem lva_r {i j : Nat} {r : Option Nat} {vs : List Value} {w : List (Nat × Value)} (hj : i + 1 = j) (h : lv_args j vs = w) : lv_args i (va_rf r :: vs) = (i, va_rf r) :: w := by
  subst hj; subst h; cases r <;> rfl
theorem lva_i {i j : Nat} {x : Int32} {vs : List Value} {w : List (Nat × Value)} (hj : i + 1 = j) (h : lv_args j vs = w) : lv_args i (.int x :: vs) = (i, .int x) :: w := by
  subst hj; subst h; rfl
theorem lva_j {i j : Nat} {x : Int64} {vs : List Value} {w : List (Nat × Value)} (hj : i + 2 = j) (h : lv_args j vs = w) : lv_args i (.long x :: vs) = (i, .long x) :: w := by
  subst hj; subst h; rfl
theorem lgs_0 : (lg_sl []).length = 0 := rfl
theorem lgs_r {r : Option Nat} {vs : List Value} {n : Nat} (h : (lg_sl vs).length = n) : (lg_sl (va_rf r :: vs)).length = n + 1 := by
  subst h; cases r <;> simp [lg_sl, va_rf, Value.category]
theorem lgs_i {x : Int32} {vs : List Value} {n : Nat} (h : (lg_sl vs).length = n) : (lg_sl (.int x :: vs)).length = n + 1 := by
  subst h; simp [lg_sl, Value.category]
theorem lgs_j {x : Int64} {vs : List Value} {n : Nat} (h : (lg_sl vs).length = n) : (lg_sl (.long x :: vs)).length = n + 2 := by
  subst h; simp [lg_sl, Value.category]
theorem gle {a n k : Nat} (h : a = n) (h2 : n ≤ k) : a ≤ k := by rw [h]; exact h2
theorem gc_0 : ((([] : List Value).map fun v => v.category).sum) = 0 := rfl
theorem gc_r {r : Option Nat} {vs : List Value} {n : Nat} (h : ((vs.map fun v => v.category).sum) = n) : (((va_rf r :: vs).map fun v => v.category).sum) = n + 1 := by
  rw [List.map_cons, List.sum_cons, h, g_cr, Nat.add_comm]
theorem gc_i {x : Int32} {vs : List Value} {n : Nat} (h : ((vs.map fun v => v.category).sum) = n) : (((.int x :: vs).map fun v => v.category).sum) = n + 1 := by
  rw [List.map_cons, List.sum_cons, h, Nat.add_comm]; rfl
theorem gc_j {x : Int64} {vs : List Value} {n : Nat} (h : ((vs.map fun v => v.category).sum) = n) : (((.long x :: vs).map fun v => v.category).sum) = n + 2 := by
  rw [List.map_cons, List.sum_cons, h, Nat.add_comm]; rfl
theorem gf0 {i : Nat} : ([] : List (Nat × Value)).filter (fun q => !(q.1 == i) && !(q.1 + 1 == i && q.2.category == 2)) = [] := rfl
theorem gfk {i k : Nat} {v : Value} {l w : List (Nat × Value)} (h1 : (k == i) = false) (h2 : (k + 1 == i) = false) (h : l.filter (fun q => !(q.1 == i) && !(q.1 + 1 == i && q.2.category == 2)) = w) : ((k, v) :: l).filter (fun q => !(q.1 == i) && !(q.1 + 1 == i && q.2.category == 2)) = (k, v) :: w := by
  rw [List.filter_cons_of_pos (by simp only [h1, h2]; rfl), h]
theorem gfd {i k : Nat} {v : Value} {l w : List (Nat × Value)} (h1 : (k == i) = true) (h : l.filter (fun q => !(q.1 == i) && !(q.1 + 1 == i && q.2.category == 2)) = w) : ((k, v) :: l).filter (fun q => !(q.1 == i) && !(q.1 + 1 == i && q.2.category == 2)) = w := by
  rw [List.filter_cons_of_neg (by simp only [h1]; simp), h]
theorem gfr {i k : Nat} {r : Option Nat} {l w : List (Nat × Value)} (h1 : (k == i) = false) (h : l.filter (fun q => !(q.1 == i) && !(q.1 + 1 == i && q.2.category == 2)) = w) : ((k, va_rf r) :: l).filter (fun q => !(q.1 == i) && !(q.1 + 1 == i && q.2.category == 2)) = (k, va_rf r) :: w := by
  rw [List.filter_cons_of_pos (by simp only [h1, g_cr]; simp), h]
theorem gh0 {i : Nat} : ([] : List (Nat × Value)).filter (fun q => !(q.1 == i) && (!(q.1 == i + 1) && !(q.1 + 1 == i && q.2.category == 2))) = [] := rfl
theorem ghk {i k : Nat} {v : Value} {l w : List (Nat × Value)} (h1 : (k == i) = false) (h3 : (k == i + 1) = false) (h2 : (k + 1 == i) = false) (h : l.filter (fun q => !(q.1 == i) && (!(q.1 == i + 1) && !(q.1 + 1 == i && q.2.category == 2))) = w) : ((k, v) :: l).filter (fun q => !(q.1 == i) && (!(q.1 == i + 1) && !(q.1 + 1 == i && q.2.category == 2))) = (k, v) :: w := by
  rw [List.filter_cons_of_pos (by simp only [h1, h2, h3]; rfl), h]
theorem ghd {i k : Nat} {v : Value} {l w : List (Nat × Value)} (h1 : (k == i) = true) (h : l.filter (fun q => !(q.1 == i) && (!(q.1 == i + 1) && !(q.1 + 1 == i && q.2.category == 2))) = w) : ((k, v) :: l).filter (fun q => !(q.1 == i) && (!(q.1 == i + 1) && !(q.1 + 1 == i && q.2.category == 2))) = w := by
  rw [List.filter_cons_of_neg (by simp only [h1]; simp), h]
theorem ghe {i k : Nat} {v : Value} {l w : List (Nat × Value)} (h1 : (k == i + 1) = true) (h : l.filter (fun q => !(q.1 == i) && (!(q.1 == i + 1) && !(q.1 + 1 == i && q.2.category == 2))) = w) : ((k, v) :: l).filter (fun q => !(q.1 == i) && (!(q.1 == i + 1) && !(q.1 + 1 == i && q.2.category == 2))) = w := by
  rw [List.filter_cons_of_neg (by simp only [h1]; simp), h]
theorem ghr {i k : Nat} {r : Option Nat} {l w : List (Nat × Value)} (h1 : (k == i) = false) (h3 : (k == i + 1) = false) (h : l.filter (fun q => !(q.1 == i) && (!(q.1 == i + 1) && !(q.1 + 1 == i && q.2.category == 2))) = w) : ((k, va_rf r) :: l).filter (fun q => !(q.1 == i) && (!(q.1 == i + 1) && !(q.1 + 1 == i && q.2.category == 2))) = (k, va_rf r) :: w := by
  rw [List.filter_cons_of_pos (by simp only [h1, h3, g_cr]; simp), h]
theorem gcons {α : Type} {x y : α} {l w : List α} (h0 : x = y) (h : l = w) : x :: l = y :: w := by rw [h0, h]
theorem gMem1 {ci a : Nat} (h : ([a] : List Nat).contains ci = true) : ci = a := by simpa using h
theorem gMem2 {ci a b : Nat} (h : ([a, b] : List Nat).contains ci = true) : ci = a ∨ ci = b := by simpa using h
theorem gMem4 {ci a b c d : Nat} (h : ([a, b, c, d] : List Nat).contains ci = true) : ci = a ∨ ci = b ∨ ci = c ∨ ci = d := by simpa using h
theorem gMem7 {ci a b c d e f g : Nat} (hh : ([a, b, c, d, e, f, g] : List Nat).contains ci = true) : ci = a ∨ ci = b ∨ ci = c ∨ ci = d ∨ ci = e ∨ ci = f ∨ ci = g := by simpa using hh
theorem gMem6 {ci a b c d e f : Nat} (hh : ([a, b, c, d, e, f] : List Nat).contains ci = true) : ci = a ∨ ci = b ∨ ci = c ∨ ci = d ∨ ci = e ∨ ci = f := by simpa using hh
theorem gMem10 {ci a b c d e f g h i j : Nat} (hh : ([a, b, c, d, e, f, g, h, i, j] : List Nat).contains ci = true) : ci = a ∨ ci = b ∨ ci = c ∨ ci = d ∨ ci = e ∨ ci = f ∨ ci = g ∨ ci = h ∨ ci = i ∨ ci = j := by simpa using hh
section GM2
variable {p : Program} {l : Launch} {e : Env} {R : Room} {s : State} {m : MethodId} {args : Array Value} {below : List Frame} {meth : Method} {c : Code} {D : gD} {K : gK} {nL u0 : Nat} {Q : State → Prop} {S : gS} {pc : Nat} {lv : List (Nat × Value)} {st : List Value} {own : String} {cc : ByteArray} {ret : Option FieldType} {hh : List (Nat × Nat × Nat × Nat)} {nm : String}
theorem oBi {α β : Type} {c : Prop} [Decidable c] {o : Option α} {f : α → Option β} {z : β} (h : ((if c then o else none).bind f) = some z) : c ∧ o.bind f = some z := by
  by_cases hc : c
  · rw [if_pos hc] at h; exact ⟨hc, h⟩
  · rw [if_neg hc] at h; cases h
theorem g_putZ (C : gCx p l R s m args meth c D K own cc nL ret hh nm u0) {ρ : Type} {cs : List Nat} {k : Nat} {owner name desc ref : String} {idx : Nat} {r : Option Nat} {x : Int32} {f : gS → Option ρ} {o : ρ} (d : decode cc pc = .ok (.putfield idx, 3)) (hfd : gFd cs k owner name desc false) (hlk : gLk own idx ref name desc) (hsm : gSm ref owner name desc) (hd : parseFieldDescriptor desc = some .boolean) (hF : (oPutZ cs k r x S).bind f = some o)
    (kk : ∀ S1, f S1 = some o → gW p l e R s m args below meth c D K nL u0 Q S1 (pc + 3) lv st) : gW p l e R s m args below meth c D K nL u0 Q S pc lv (.int x :: va_rf r :: st) := by
  obtain ⟨h1, h2⟩ := oBi hF
  exact g_put C d hfd hlk hsm hd (nrZ h1) (ftZ h1) h2 kk
theorem g_putB (C : gCx p l R s m args meth c D K own cc nL ret hh nm u0) {ρ : Type} {cs : List Nat} {k : Nat} {owner name desc ref : String} {idx : Nat} {r : Option Nat} {x : Int32} {f : gS → Option ρ} {o : ρ} (d : decode cc pc = .ok (.putfield idx, 3)) (hfd : gFd cs k owner name desc false) (hlk : gLk own idx ref name desc) (hsm : gSm ref owner name desc) (hd : parseFieldDescriptor desc = some .byte) (hF : (oPutB cs k r x S).bind f = some o)
    (kk : ∀ S1, f S1 = some o → gW p l e R s m args below meth c D K nL u0 Q S1 (pc + 3) lv st) : gW p l e R s m args below meth c D K nL u0 Q S pc lv (.int x :: va_rf r :: st) := by
  obtain ⟨h1, h2⟩ := oBi hF
  exact g_put C d hfd hlk hsm hd (nrB h1) (ftB h1) h2 kk
theorem g_putFZ (C : gCx p l R s m args meth c D K own cc nL ret hh nm u0) {ρ : Type} {cs : List Nat} {k : Nat} {name desc : String} {idx : Nat} {r : Option Nat} {x : Int32} {f : gS → Option ρ} {o : ρ} (hnm9 : nm = "<init>") (d : decode cc pc = .ok (.putfield idx, 3)) (hfd : gFd cs k own name desc true) (hlk : Cond.fieldLink own idx own name desc ∈ lw_all) (hd : parseFieldDescriptor desc = some .boolean) (hF : (oPutZ cs k r x S).bind f = some o)
    (kk : ∀ S1, f S1 = some o → gW p l e R s m args below meth c D K nL u0 Q S1 (pc + 3) lv st) : gW p l e R s m args below meth c D K nL u0 Q S pc lv (.int x :: va_rf r :: st) := by
  obtain ⟨h1, h2⟩ := oBi hF
  exact g_putF C hnm9 d hfd hlk hd (nrZ h1) (ftZ h1) h2 kk
theorem g_putFB (C : gCx p l R s m args meth c D K own cc nL ret hh nm u0) {ρ : Type} {cs : List Nat} {k : Nat} {name desc : String} {idx : Nat} {r : Option Nat} {x : Int32} {f : gS → Option ρ} {o : ρ} (hnm9 : nm = "<init>") (d : decode cc pc = .ok (.putfield idx, 3)) (hfd : gFd cs k own name desc true) (hlk : Cond.fieldLink own idx own name desc ∈ lw_all) (hd : parseFieldDescriptor desc = some .byte) (hF : (oPutB cs k r x S).bind f = some o)
    (kk : ∀ S1, f S1 = some o → gW p l e R s m args below meth c D K nL u0 Q S1 (pc + 3) lv st) : gW p l e R s m args below meth c D K nL u0 Q S pc lv (.int x :: va_rf r :: st) := by
  obtain ⟨h1, h2⟩ := oBi hF
  exact g_putF C hnm9 d hfd hlk hd (nrB h1) (ftB h1) h2 kk
/-- one target, whichever of these classes the receiver is of -/
theorem g_runW (C : gCx p l R s m args meth c D K own cc nL ret hh nm u0) {y x : MethodName} {bytes : ByteArray} {maxL n idx fr lo : Nat} {rt : Option FieldType} {As rest : List Value} {out : gO} {S1 : gS} {owner : String} {cs : List Nat} {r : Option Nat} (d : decode cc pc = .ok (.invokevirtual idx, 3)) (hr : oIs cs r S = true) (hM : gMet l D K y (ws_ y bytes maxL rt) fr lo (va_rf r :: As) S out S1) (hcode : Cond.code y bytes maxL rt ∈ lw_all) (hini : Cond.initialized y.cls ∈ lw_all) (hlk : Cond.methodLink own idx x ∈ lw_all) (hsm : Cond.sameMethod x.cls owner x.name x.desc ∈ lw_all) (hdc : gDecl ⟨owner, x.name, x.desc⟩)
    (hsel : ∀ ci : Nat, cs.contains ci = true → ∃ (T : u_T) (N : Nat) (Cn : String), gCl[ci]? = some (Cn, T, N) ∧ Cond.selects Cn x y ∈ lw_all) (hin : Cond.instanceMethod y ∈ lw_all)
    (hd : owner ≠ "java/lang/invoke/MethodHandle" ∧ owner ≠ "java/lang/invoke/VarHandle" ∧ (parseMethodDescriptor x.desc).map (fun d => d.parameters.length) = some n) (hR : fr + 1 ≤ R.frames ∧ 8 + (maxL + 11) + lo ≤ R.locals) (hn : As.length = n) (hst : st = As.reverse ++ va_rf r :: rest) (hc : (rest.map fun v => v.category).sum ≤ 8) :
    gRun p l e R s m args below meth c D K nL u0 S pc lv st rest (va_rf r :: As).toArray out S1 := by
  obtain ⟨a, b, ci, fs, rfl, hM2, hc2⟩ := oIs_obj hr
  obtain ⟨T, N, Cn, h1, h2⟩ := hsel ci hc2
  have hr1 : oIs [ci] (some a) S = true := by
    unfold oIs
    rw [show gGet S (some a) = some (b, .inl (ci, fs)) from hM2]
    simp
  exact g_runU C d h1 hr1 hM hcode hini hlk hsm hdc h2 hin hd hR hn hst hc
/-- an array of this kind -/
def oIsA (kd : Nat) (r : Option Nat) (S : gS) : Bool := match gGet S r with
  | some (_, .inr (k, _)) => k == kd
  | _ => false
theorem g_castA (C : gCx p l R s m args meth c D K own cc nL ret hh nm u0) {idx kd : Nat} {E : String} {r : Option Nat} (d : decode cc pc = .ok (.checkcast idx, 3)) (hcl : Cond.classLink own idx E ∈ lw_all) (hE : ∀ cA, va_RA s cA (gTy kd) → s.vm.findClass E = some cA) (hr : oIsA kd r S = true)
    (k : gW p l e R s m args below meth c D K nL u0 Q S (pc + 3) lv (va_rf r :: st)) : gW p l e R s m args below meth c D K nL u0 Q S pc lv (va_rf r :: st) := by
  intro H locs ls hH hS hu hl
  unfold oIsA at hr
  split at hr
  · rename_i b k9 a9 hg
    have hk : k9 = kd := by simpa using hr
    subst hk
    obtain ⟨q, rfl, hM⟩ := gGet_obj hg
    obtain ⟨h0, h1, cell, h2, h3, h4, h5, h6⟩ := (hH.2.2.2.2 q _ hM).1
    have hf := hE _ (gKd C h0).2
    intro T hT X
    obtain ⟨vm', X', stp⟩ := X.checkcastYes C.1 C.2.2.2.1 (C.2.2.2.2.2.2.2.1 _ hcl) (by rw [hT]; exact h2) h4 (by rw [h3]; exact hf) (va_asg _ _) (g := F0 m pc ls (.ref q :: st)) rfl rfl (by rw [C.2.1]; exact d)
    obtain ⟨t, a1, b1⟩ := k H locs ls hH hS hu hl (T.setVm vm') hT X'
    exact ⟨t, stp t a1, b1⟩
  · cases hr
/-- System.arraycopy of ints or bytes -/
theorem oCopyI_obj {kd : Nat} {src dst : Option Nat} {sp dp n : Int32} {S S1 : gS} (h : oCopyI kd src sp dst dp n S = some S1) : ∃ (a0 a n0 n1 : Nat) (f g : Nat → Int32), src = some a0 ∧ dst = some a ∧ S.1 a0 = some (true, .inr (kd, n0, .inl f)) ∧ S.1 a = some (true, .inr (kd, n1, .inl g)) ∧ ¬ sp < 0 ∧ ¬ dp < 0 ∧ ¬ n < 0 ∧ sp.toNatClampNeg + n.toNatClampNeg ≤ n0 ∧ dp.toNatClampNeg + n.toNatClampNeg ≤ n1 ∧ S1 = (va_up S.1 a (some (true, .inr (kd, n1, .inl (va_cpy f g sp.toNatClampNeg dp.toNatClampNeg n.toNatClampNeg)))), S.2) := by
  unfold oCopyI at h
  split at h
  · rename_i n0 f a hs
    obtain ⟨a0, b0, h1, h2⟩ := oArr_obj hs
    split at h
    · rename_i x k n1 g hM
      split at h
      · rename_i hk
        obtain ⟨rfl, hb0, h3, h4, h5, h6, h7⟩ := hk
        have hb := oOwn_b hb0 h1 h2
        subst hb
        exact ⟨a0, a, n0, n1, f, g, h1, rfl, h2, hM, h3, h4, h5, h6, h7, (Option.some.inj h).symm⟩
      · cases h
    · cases h
  · cases h
theorem gFit_cpy {f g : Nat → Int32} {sp dp n : Nat} (h : ∀ j, fits .byte (.int (f j)) = true) (h2 : ∀ j, fits .byte (.int (g j)) = true) (j : Nat) : fits .byte (.int (va_cpy f g sp dp n j)) = true := by
  unfold va_cpy
  split
  · exact h _
  · exact h2 _
theorem g_copyI (C : gCx p l R s m args meth c D K own cc nL ret hh nm u0) {ρ : Type} {kd idx : Nat} (hkd : kd = 0 ∨ kd = 1) {src dst : Option Nat} {sp dp n : Int32} {f9 : gS → Option ρ} {o : ρ} (d : decode cc pc = .ok (.invokestatic idx, 3)) (hlk : Cond.methodLink own idx arraycopyName ∈ lw_all) (hnat : Cond.native arraycopyName ∈ lw_all) (hstat : Cond.static arraycopyName ∈ lw_all) (hini : Cond.initialized "java/lang/System" ∈ lw_all)
    (hR : 1 ≤ R.frames ∧ 8 + (nativeFrameWords "java/lang/System" "arraycopy" 5 + 11) ≤ R.locals) (hc : (st.map fun v => v.category).sum ≤ 8) (hF : (oCopyI kd src sp dst dp n S).bind f9 = some o)
    (kk : ∀ S1, f9 S1 = some o → gW p l e R s m args below meth c D K nL u0 Q S1 (pc + 3) lv st) : gW p l e R s m args below meth c D K nL u0 Q S pc lv (.int n :: .int dp :: va_rf dst :: .int sp :: va_rf src :: st) := by
  intro H locs ls hH hS hu hl
  obtain ⟨S1, hc1, hc2⟩ := oB hF
  obtain ⟨a0, a, n0, n1, f, g, rfl, rfl, hM0, hM1, h1, h2, h3, h4, h5, hS1⟩ := oCopyI_obj hc1
  subst hS1
  have hts := C.2.2.2.2.2.2.2.1
  have nn : ∀ z : Int32, ¬ z < 0 → z.toInt = (z.toNatClampNeg : Int) := by
    intro z hz
    have hz0 : (0 : Int) ≤ z.toInt := by
      have := Int32.not_lt.mp hz
      simpa using Int32.le_iff_toInt_le.mp this
    show z.toInt = ((z.toInt.toNat : Nat) : Int)
    omega
  intro T hT X
  obtain ⟨hat0, -⟩ := hH.2.2.2.2 a0 _ hM0
  have hat0 := hat0.arr
  obtain ⟨hat1, hsz⟩ := hH.2.2.2.2 a _ hM1
  have hat1 := hat1.arr
  have hc0 : H[a0]? = some (vp_cell (D.2 kd) (n0, .inl f)) := hat0.2.1
  have hc1' : H[a]? = some (vp_cell (D.2 kd) (n1, .inl g)) := hat1.2.1
  obtain ⟨-, k0, hk0, cm0, hkk0⟩ := (gKd C hat0.1).1 n0 (fun j => .int (f j))
  obtain ⟨-, k1, hk1, cm1, hkk1⟩ := (gKd C hat1.1).1 n1 (fun j => .int (g j))
  have hfit : ∀ j, fits (gTy kd) (.int (f j)) = true := by
    rcases hkd with rfl | rfl
    · exact fun _ => rfl
    · exact hat0.2.2 rfl f rfl
  have hprim : refKind (gTy kd) = false := by rcases hkd with rfl | rfl <;> rfl
  obtain ⟨vm', X', step⟩ := X.arraycopy C.1 C.2.2.2.1 (hts _ hlk) (hts _ hnat) (hts _ hstat) (hts _ hini) (src := a0) (dst := a) (cs := vp_cell (D.2 kd) (n0, .inl f)) (cd := vp_cell (D.2 kd) (n1, .inl g)) (srcPos := sp) (destPos := dp) (n := n) (by rw [hT]; exact hc0) (by rw [hT]; exact hc1')
    (fun _ h => by cases h) (fun _ h => by cases h) (fun h => by cases h) (fun h => by cases h) hk0 hk1 hkk0 hkk1 (by simp [hprim]) h1 h2 h3
    (by rw [nn sp h1, nn n h3]; show ¬ _ > ((arrV (D.2 kd) n0 (fun j => .int (f j))).slots.size : Int); rw [arrV_size]; omega)
    (by rw [nn dp h2, nn n h3]; show ¬ _ > ((arrV (D.2 kd) n1 (fun j => .int (g j))).slots.size : Int); rw [arrV_size]; omega)
    (fun vm₁ _ i hi => by
      have e : (vp_cell (D.2 kd) (n0, .inl f)).slots.getD (sp.toNatClampNeg + i) .null = .int (f (sp.toNatClampNeg + i)) := by
        show (arrV (D.2 kd) n0 (fun j => .int (f j))).slots.getD _ _ = _
        rw [Array.getD_eq_getD_getElem?, arrV_read _ _ (by omega)]
        rfl
      refine ⟨?_, ?_⟩
      · rw [e]
        exact hfit _
      · rw [e]
        exact trivial)
    (g := F0 m pc ls (.int n :: .int dp :: .ref a :: .int sp :: .ref a0 :: st)) rfl (by rw [C.2.2.1]; exact hl.1) (rest := st) rfl (by rw [C.2.1]; exact d) hR.1 (by show 2 * 0 + _ + _ ≤ _; have := hR.2; omega)
  have e1 : copied (vp_cell (D.2 kd) (n0, .inl f)) (vp_cell (D.2 kd) (n1, .inl g)) sp dp n = vp_cell (D.2 kd) (n1, .inl (va_cpy f g sp.toNatClampNeg dp.toNatClampNeg n.toNatClampNeg)) := va_copied (fun z => .int z) (D.2 kd) (D.2 kd) f g h4
  rw [e1] at X' step
  have hlt : a < H.size := (Array.getElem?_eq_some_iff.mp hc1').1
  have hheap : ((T.setVm vm').setCell a (vp_cell (D.2 kd) (n1, .inl (va_cpy f g sp.toNatClampNeg dp.toNatClampNeg n.toNatClampNeg)))).heap = H.setIfInBounds a (vp_cell (D.2 kd) (n1, .inl (va_cpy f g sp.toNatClampNeg dp.toNatClampNeg n.toNatClampNeg))) := by rw [← hT]; rfl
  have oq : ∀ q : Nat, q ≠ a → (H.setIfInBounds a (vp_cell (D.2 kd) (n1, .inl (va_cpy f g sp.toNatClampNeg dp.toNatClampNeg n.toNatClampNeg))))[q]? = H[q]? := fun q hq => by simp [Array.getElem?_setIfInBounds, Ne.symm hq]
  have z2 : (H.setIfInBounds a (vp_cell (D.2 kd) (n1, .inl (va_cpy f g sp.toNatClampNeg dp.toNatClampNeg n.toNatClampNeg)))).size = H.size := by simp
  have hH1 : gH D K (va_up S.1 a (some (true, .inr (kd, n1, .inl (va_cpy f g sp.toNatClampNeg dp.toNatClampNeg n.toNatClampNeg)))), S.2) (H.setIfInBounds a (vp_cell (D.2 kd) (n1, .inl (va_cpy f g sp.toNatClampNeg dp.toNatClampNeg n.toNatClampNeg)))) := by
    exact hH.put hM1 rfl z2 oq (gAt.of_arr ⟨hat1.1, show (H.setIfInBounds a _)[a]? = some _ by simp [Array.getElem?_setIfInBounds, hlt], fun h9 f9 hf j => by cases hf; exact gFit_cpy (hat0.2.2 h9 f rfl) (hat1.2.2 h9 g rfl) j⟩)
  obtain ⟨t, a1, b1⟩ := kk _ hc2 _ _ ls hH1 ⟨by rw [z2]; exact hS.1, fun q g1 g2 => by
      rw [oq q (fun e => g2 (by rw [e]; exact hsz rfl))]
      exact hS.2.1 q g1 g2, fun q hq => by
      rcases List.mem_append.mp hq with h | h
      · exact hS.2.2 q h
      · obtain ⟨z, -, hz⟩ := List.mem_map.mp h
        rw [← hz]
        exact (show K.1 ≤ a from hsz rfl)⟩ hu hl _ hheap X'
  exact ⟨t, step t a1, b1⟩
/-- System.arraycopy of references -/
theorem oCopyR_obj {kd : Nat} {cs : List Nat} {src dst : Option Nat} {sp dp n : Int32} {S S1 : gS} (h : oCopyR kd cs src sp dst dp n S = some S1) : ∃ (a0 a n0 n1 : Nat) (f g : Nat → Option Nat), src = some a0 ∧ dst = some a ∧ S.1 a0 = some (true, .inr (kd, n0, .inr (.inr (.inr (.inr f))))) ∧ S.1 a = some (true, .inr (kd, n1, .inr (.inr (.inr (.inr g))))) ∧ oEls cs f sp.toNatClampNeg n.toNatClampNeg S = true ∧ ¬ sp < 0 ∧ ¬ dp < 0 ∧ ¬ n < 0 ∧ sp.toNatClampNeg + n.toNatClampNeg ≤ n0 ∧ dp.toNatClampNeg + n.toNatClampNeg ≤ n1 ∧ S1 = (va_up S.1 a (some (true, .inr (kd, n1, .inr (.inr (.inr (.inr (va_cpy f g sp.toNatClampNeg dp.toNatClampNeg n.toNatClampNeg))))))), S.2) := by
  unfold oCopyR at h
  split at h
  · rename_i n0 f a hs
    obtain ⟨a0, b0, h1, h2⟩ := oArr_obj hs
    split at h
    · rename_i x k n1 g hM
      split at h
      · rename_i hk
        obtain ⟨rfl, hb0, hel, h3, h4, h5, h6, h7⟩ := hk
        have hb := oOwn_b hb0 h1 h2
        subst hb
        exact ⟨a0, a, n0, n1, f, g, h1, rfl, h2, hM, hel, h3, h4, h5, h6, h7, (Option.some.inj h).symm⟩
      · cases h
    · cases h
  · cases h
theorem g_copyR (C : gCx p l R s m args meth c D K own cc nL ret hh nm u0) {ρ : Type} {kd idx : Nat} {E : String} {cs : List Nat} (hE : gTy kd = .object E) (hcs : ∀ ci : Nat, cs.contains ci = true → ∃ r1 : vw_C, gCl[ci]? = some r1 ∧ (r1.1 = E ∨ Cond.castable r1.1 E ∈ lw_tbl)) {src dst : Option Nat} {sp dp n : Int32} {f9 : gS → Option ρ} {o : ρ} (d : decode cc pc = .ok (.invokestatic idx, 3)) (hlk : Cond.methodLink own idx arraycopyName ∈ lw_all) (hnat : Cond.native arraycopyName ∈ lw_all) (hstat : Cond.static arraycopyName ∈ lw_all) (hini : Cond.initialized "java/lang/System" ∈ lw_all)
    (hR : 1 ≤ R.frames ∧ 8 + (nativeFrameWords "java/lang/System" "arraycopy" 5 + 11) ≤ R.locals) (hc : (st.map fun v => v.category).sum ≤ 8) (hF : (oCopyR kd cs src sp dst dp n S).bind f9 = some o)
    (kk : ∀ S1, f9 S1 = some o → gW p l e R s m args below meth c D K nL u0 Q S1 (pc + 3) lv st) : gW p l e R s m args below meth c D K nL u0 Q S pc lv (.int n :: .int dp :: va_rf dst :: .int sp :: va_rf src :: st) := by
  intro H locs ls hH hS hu hl
  obtain ⟨S1, hc1, hc2⟩ := oB hF
  obtain ⟨a0, a, n0, n1, f, g, rfl, rfl, hM0, hM1, hel, h1, h2, h3, h4, h5, hS1⟩ := oCopyR_obj hc1
  subst hS1
  have hts := C.2.2.2.2.2.2.2.1
  have nn : ∀ z : Int32, ¬ z < 0 → z.toInt = (z.toNatClampNeg : Int) := by
    intro z hz
    have hz0 : (0 : Int) ≤ z.toInt := by
      have := Int32.not_lt.mp hz
      simpa using Int32.le_iff_toInt_le.mp this
    show z.toInt = ((z.toInt.toNat : Nat) : Int)
    omega
  intro T hT X
  obtain ⟨hat0, -⟩ := hH.2.2.2.2 a0 _ hM0
  have hat0 := hat0.arr
  obtain ⟨hat1, hsz⟩ := hH.2.2.2.2 a _ hM1
  have hat1 := hat1.arr
  have hc0 : H[a0]? = some (vp_cell (D.2 kd) (n0, .inr (.inr (.inr (.inr f))))) := hat0.2.1
  have hc1' : H[a]? = some (vp_cell (D.2 kd) (n1, .inr (.inr (.inr (.inr g))))) := hat1.2.1
  obtain ⟨-, k0, hk0, cm0, hkk0⟩ := (gKd C hat0.1).1 n0 (fun j => va_rf (f j))
  obtain ⟨-, k1, hk1, cm1, hkk1⟩ := (gKd C hat1.1).1 n1 (fun j => va_rf (g j))
  have href : refKind (gTy kd) = true := by rw [hE]; rfl
  obtain ⟨-, hRA⟩ := gKd C hat1.1
  rw [hE] at hRA
  obtain ⟨vm', X', step⟩ := X.arraycopy C.1 C.2.2.2.1 (hts _ hlk) (hts _ hnat) (hts _ hstat) (hts _ hini) (src := a0) (dst := a) (cs := vp_cell (D.2 kd) (n0, .inr (.inr (.inr (.inr f))))) (cd := vp_cell (D.2 kd) (n1, .inr (.inr (.inr (.inr g))))) (srcPos := sp) (destPos := dp) (n := n) (by rw [hT]; exact hc0) (by rw [hT]; exact hc1')
    (fun _ h => by cases h) (fun _ h => by cases h) (fun h => by cases h) (fun h => by cases h) hk0 hk1 hkk0 hkk1 (by rw [href]; simp) h1 h2 h3
    (by rw [nn sp h1, nn n h3]; show ¬ _ > ((arrV (D.2 kd) n0 (fun j => va_rf (f j))).slots.size : Int); rw [arrV_size]; omega)
    (by rw [nn dp h2, nn n h3]; show ¬ _ > ((arrV (D.2 kd) n1 (fun j => va_rf (g j))).slots.size : Int); rw [arrV_size]; omega)
    (fun vm₁ hal i hi => by
      have e : (vp_cell (D.2 kd) (n0, .inr (.inr (.inr (.inr f))))).slots.getD (sp.toNatClampNeg + i) .null = va_rf (f (sp.toNatClampNeg + i)) := by
        show (arrV (D.2 kd) n0 (fun j => va_rf (f j))).slots.getD _ _ = _
        rw [Array.getD_eq_getD_getElem?, arrV_read _ _ (by omega)]
        rfl
      rw [e]
      have h9 := List.all_eq_true.mp hel i (List.mem_range.mpr hi)
      cases hy : f (sp.toNatClampNeg + i) with
      | none => exact ⟨by rw [hE]; rfl, trivial⟩
      | some y =>
        rw [hy] at h9
        obtain ⟨y2, b2, ci, fs, hy2, hMy, hci⟩ := oIs_obj h9
        cases hy2
        obtain ⟨r1, hr1, cellV, g1, g2, g3, g4, -⟩ := g_recv C hH hMy
        obtain ⟨r2, hr2, hca⟩ := hcs ci hci
        cases hr1.symm.trans hr2
        obtain ⟨kA, comp, r1', r2', r3, -⟩ := hRA
        cases hk1.symm.trans r1'
        rw [hE] at hkk1
        cases hkk1.symm.trans r2'
        have hasg : s.vm.assignable (D.1.1 ci) cm1 = true := by
          rcases hca with he | he
          · rw [he] at g4
            cases g4.1.symm.trans r3
            exact va_assign g4
          · obtain ⟨c0, t0, f1, f2, f3⟩ := Cond.castable_spec (va_Nw.use (A := args) rfl (C.2.2.2.2.2.2.2.2.1.2.1 _ he rfl))
            cases g4.1.symm.trans f1
            cases r3.symm.trans f2
            exact f3
        obtain ⟨kE, hkE, -⟩ := Vm.findClass_spec r3
        obtain ⟨kC, hkC, -⟩ := g4.2
        obtain ⟨kC', hkC', -⟩ := hal.2.2 _ _ hkC
        obtain ⟨kE', hkE', -⟩ := hal.2.2 _ _ hkE
        refine ⟨by rw [hE]; rfl, cellV, (show T.heap[y]? = some cellV by rw [hT]; exact g1), (fun q h => by rw [h] at g2; cases g2), ⟨kC', by rw [g3]; exact hkC'⟩, ?_, ?_⟩
        · exact ⟨kE', hkE'⟩
        · show vm₁.assignable _ _ = true
          rw [hal.assignable, g3]
          exact hasg)
    (g := F0 m pc ls (.int n :: .int dp :: .ref a :: .int sp :: .ref a0 :: st)) rfl (by rw [C.2.2.1]; exact hl.1) (rest := st) rfl (by rw [C.2.1]; exact d) hR.1 (by show 2 * 0 + _ + _ ≤ _; have := hR.2; omega)
  have e1 : copied (vp_cell (D.2 kd) (n0, .inr (.inr (.inr (.inr f))))) (vp_cell (D.2 kd) (n1, .inr (.inr (.inr (.inr g))))) sp dp n = vp_cell (D.2 kd) (n1, .inr (.inr (.inr (.inr (va_cpy f g sp.toNatClampNeg dp.toNatClampNeg n.toNatClampNeg))))) := va_copied (fun z => va_rf z) (D.2 kd) (D.2 kd) f g h4
  rw [e1] at X' step
  have hlt : a < H.size := (Array.getElem?_eq_some_iff.mp hc1').1
  have hheap : ((T.setVm vm').setCell a (vp_cell (D.2 kd) (n1, .inr (.inr (.inr (.inr (va_cpy f g sp.toNatClampNeg dp.toNatClampNeg n.toNatClampNeg))))))).heap = H.setIfInBounds a (vp_cell (D.2 kd) (n1, .inr (.inr (.inr (.inr (va_cpy f g sp.toNatClampNeg dp.toNatClampNeg n.toNatClampNeg)))))) := by rw [← hT]; rfl
  have oq : ∀ q : Nat, q ≠ a → (H.setIfInBounds a (vp_cell (D.2 kd) (n1, .inr (.inr (.inr (.inr (va_cpy f g sp.toNatClampNeg dp.toNatClampNeg n.toNatClampNeg)))))))[q]? = H[q]? := fun q hq => by simp [Array.getElem?_setIfInBounds, Ne.symm hq]
  have z2 : (H.setIfInBounds a (vp_cell (D.2 kd) (n1, .inr (.inr (.inr (.inr (va_cpy f g sp.toNatClampNeg dp.toNatClampNeg n.toNatClampNeg))))))).size = H.size := by simp
  have hH1 : gH D K (va_up S.1 a (some (true, .inr (kd, n1, .inr (.inr (.inr (.inr (va_cpy f g sp.toNatClampNeg dp.toNatClampNeg n.toNatClampNeg))))))), S.2) (H.setIfInBounds a (vp_cell (D.2 kd) (n1, .inr (.inr (.inr (.inr (va_cpy f g sp.toNatClampNeg dp.toNatClampNeg n.toNatClampNeg))))))) := by
    exact hH.put hM1 rfl z2 oq (gAt.of_arr ⟨hat1.1, show (H.setIfInBounds a _)[a]? = some _ by simp [Array.getElem?_setIfInBounds, hlt], fun h9 f9 hf j => by cases hf⟩)
  obtain ⟨t, a1, b1⟩ := kk _ hc2 _ _ ls hH1 ⟨by rw [z2]; exact hS.1, fun q g1 g2 => by
      rw [oq q (fun e => g2 (by rw [e]; exact hsz rfl))]
      exact hS.2.1 q g1 g2, fun q hq => by
      rcases List.mem_append.mp hq with h | h
      · exact hS.2.2 q h
      · obtain ⟨z, -, hz⟩ := List.mem_map.mp h
        rw [← hz]
        exact (show K.1 ≤ a from hsz rfl)⟩ hu hl _ hheap X'
  exact ⟨t, step t a1, b1⟩
/-- getClass() of an array of Object, and the class constant Object[].class -/
theorem g_getC (C : gCx p l R s m args meth c D K own cc nL ret hh nm u0) {idx : Nat} {r : Option Nat} (d : decode cc pc = .ok (.invokevirtual idx, 3)) (hlk : Cond.methodLink own idx ⟨"java/lang/Object", "getClass", "()Ljava/lang/Class;"⟩ ∈ lw_all) (hdc : Cond.declares ⟨"java/lang/Object", "getClass", "()Ljava/lang/Class;"⟩ ∈ lw_tbl) (hsel : Cond.selects "[Ljava/lang/Object;" ⟨"java/lang/Object", "getClass", "()Ljava/lang/Class;"⟩ ⟨"java/lang/Object", "getClass", "()Ljava/lang/Class;"⟩ ∈ lw_all) (hin : Cond.instanceMethod ⟨"java/lang/Object", "getClass", "()Ljava/lang/Class;"⟩ ∈ lw_all) (hnat : Cond.native ⟨"java/lang/Object", "getClass", "()Ljava/lang/Class;"⟩ ∈ lw_all) (hr : oIsA 3 r S = true) (hR : 1 ≤ R.frames ∧ 22 ≤ R.locals) (hc : (st.map fun v => v.category).sum ≤ 8)
    (k : gW p l e R s m args below meth c D K nL u0 Q S (pc + 3) lv (va_rf (S.2.2.2.2.2 2) :: st)) : gW p l e R s m args below meth c D K nL u0 Q S pc lv (va_rf r :: st) := by
  intro H locs ls hH hS hu hl
  have hts := C.2.2.2.2.2.2.2.1
  have hX := C.2.2.2.2.2.2.2.2.1
  unfold oIsA at hr
  split at hr
  · rename_i b k9 a9 hg
    have hk : k9 = 3 := by simpa using hr
    subst hk
    obtain ⟨q, rfl, hM⟩ := gGet_obj hg
    obtain ⟨h0, h1, cell, h2, h3, h4, h5, h6⟩ := (hH.2.2.2.2 q _ hM).1
    have hf := va_nmO (nm := "[Ljava/lang/Object;") (gKd C h0).2 rfl
    obtain ⟨⟨mi, hmi, hMi⟩, -⟩ := hX.2.2.2.2.2.2.2.2.2.2
    have k := k H locs ls hH hS hu hl
    rw [hH.1, hmi] at k
    have hR2 := hR.2
    exact va_getC C.1 C.2.1 (by rw [C.2.2.1]; exact hl.1.symm) C.2.2.2.1 (hts _ hlk) (va_Nw.use rfl (hX.2.1 _ hdc rfl)) (hts _ hsel) (hts _ hin) (hts _ hnat) hMi ⟨cell, h2, h4, by rw [h3]; exact hf⟩ hR.1 (by omega) d k
  · cases hr
theorem g_ldcM (C : gCx p l R s m args meth c D K own cc nL ret hh nm u0) {idx : Nat} (d : decode cc pc = .ok (.ldc idx, 2)) (hcl : Cond.classLink own idx "[Ljava/lang/Object;" ∈ lw_all)
    (k : gW p l e R s m args below meth c D K nL u0 Q S (pc + 2) lv (va_rf (S.2.2.2.2.2 2) :: st)) : gW p l e R s m args below meth c D K nL u0 Q S pc lv st := by
  intro H locs ls hH hS hu hl
  obtain ⟨⟨mi, hmi, hMi⟩, -⟩ := C.2.2.2.2.2.2.2.2.1.2.2.2.2.2.2.2.2.2.2
  have k := k H locs ls hH hS hu hl
  rw [hH.1, hmi] at k
  exact va_ldcM C.1 C.2.1 C.2.2.2.1 (C.2.2.2.2.2.2.2.1 _ hcl) hMi d k
theorem g_ldcw (C : gCx p l R s m args meth c D K own cc nL ret hh nm u0) {index : Nat} {v : Int32} (d : decode cc pc = .ok (.ldc_w index, 3)) (hc : Jvm.Cond.constant own index v ∈ lw_all) (k : gW p l e R s m args below meth c D K nL u0 Q S (pc + 3) lv (.int v :: st)) : gW p l e R s m args below meth c D K nL u0 Q S pc lv st := fun H locs ls hH hS hu hl => lv_ldcw C.1 C.2.1 C.2.2.2.1 (C.2.2.2.2.2.2.2.1 _ hc) d (k H locs ls hH hS hu hl)
theorem gOuter (cI : ClassId) (N h0 : Nat) : ∀ i, Jvm.Free.Multi.outerC cI N h0 i = arrV cI N (fun j => if j < i then .ref (h0 + 1 + j) else .null)
  | 0 => by
    show ({ cls := cI, slots := Array.replicate N .null, vm := .none } : Cell) = _
    rw [arrV_new]
    congr 1
  | i + 1 => by
    show (Jvm.Free.Multi.outerC cI N h0 i).setSlot i (.ref (h0 + 1 + i)) = _
    rw [gOuter cI N h0 i, arrV_store]
    congr 1
    funext j
    unfold updV
    by_cases hj : j = i
    · subst hj
      rw [if_pos rfl, if_pos (Nat.lt_succ_self _)]
    · rw [if_neg hj]
      show (if j < i then Value.ref (h0 + 1 + j) else Value.null) = if j < i + 1 then Value.ref (h0 + 1 + j) else Value.null
      by_cases h2 : j < i
      · rw [if_pos h2, if_pos (Nat.lt_succ_of_lt h2)]
      · rw [if_neg h2, if_neg (by omega)]
theorem gArrV_ext {cI : ClassId} {N : Nat} {f g : Nat → Value} (h : ∀ j, j < N → f j = g j) : arrV cI N f = arrV cI N g := by
  unfold arrV
  congr 2
  funext j
  exact h j.val j.isLt
theorem oNew2_obj {n k : Int32} {S S1 : gS} {q : Nat} (h : oNew2 n k S = some (q, S1)) : ¬ n < 0 ∧ ¬ k < 0 ∧ q = S.2.1 ∧ S1 = (gGrid S.1 S.2.1 n.toNatClampNeg k.toNatClampNeg, S.2.1 + (1 + n.toNatClampNeg), S.2.2.1 + (n.toNatClampNeg + n.toNatClampNeg * k.toNatClampNeg), S.2.2.2) ∧ S.2.1 + (1 + n.toNatClampNeg) ≤ gLim S.2.2.2 ∧ S.2.2.1 + (n.toNatClampNeg + n.toNatClampNeg * k.toNatClampNeg) ≤ gUB := by
  unfold oNew2 at h
  split at h
  · cases h
  · rename_i hn
    split at h
    · rename_i hc
      cases h
      exact ⟨fun z => hn (Or.inl z), fun z => hn (Or.inr z), rfl, rfl, hc.1, hc.2⟩
    · cases h
/-- new int[n][k] -/
theorem g_new2 (C : gCx p l R s m args meth c D K own cc nL ret hh nm u0) {ρ : Type} {n k : Int32} {idx : Nat} {f : Nat → gS → Option ρ} {o : ρ} (d : decode cc pc = .ok (.multianewarray idx 2, 4)) (hcl : Cond.classLink own idx "[[I" ∈ lw_all) (harr : Cond.arrayClass .int ∈ lw_all) (hk9 : k.toNatClampNeg ≤ 1000000) (hF : gB (oNew2 n k S) f = some o)
    (kk : ∀ q S1, f q S1 = some o → gW p l e R s m args below meth c D K nL u0 Q S1 (pc + 4) lv (va_rf (some q) :: st)) : gW p l e R s m args below meth c D K nL u0 Q S pc lv (.int k :: .int n :: st) := by
  intro H locs ls hH hS hu hl T hT X
  subst hT
  obtain ⟨q, S1, h1, h2⟩ := gB_some hF
  obtain ⟨hn, hk, hq, hS1, hb1, hb2⟩ := oNew2_obj h1
  rw [hH.1] at hb1
  have hsz := gSz hH hS
  have hts := C.2.2.2.2.2.2.2.1
  have hX := C.2.2.2.2.2.2.2.2.1
  have h9 : n.toNatClampNeg ≤ 7293034 := Nat.le_trans (Nat.le_trans (Nat.le_add_right _ _) (Nat.le_add_left _ _)) hb2
  obtain ⟨vm₁, cA, comp, hW, hfA, hfC, hO, hI, X1, step⟩ := X.multianewarray2F C.1 (ty := .int) C.2.2.2.1 (hts _ hcl) hX.2.2.2.2.2.2.2.2.2.1 (hts _ harr) (g := F0 m pc ls (.int k :: .int n :: st)) rfl (by rw [C.2.1]; exact d) rfl hn hk (Nat.le_trans (Nat.mul_le_mul_right 4 h9) (by decide)) (Nat.le_trans (Nat.mul_le_mul_right _ hk9) (by decide)) (Nat.le_trans hk9 (by decide)) rfl rfl (by rw [C.2.2.2.2.2.2.2.2.2.1]; exact g_rm hsz hb1) (by rw [C.2.2.2.2.2.2.2.2.2.2.1]; exact g_rm hu hb2)
  obtain ⟨hk1, hk2⟩ := gKd C (kd := 5) (by decide)
  obtain ⟨hk3, hk4⟩ := gKd C (kd := 0) (by decide)
  have hcA : cA = D.2 5 := Option.some.inj (hfA.symm.trans hk2)
  have hcC : comp = D.2 0 := Option.some.inj (hfC.symm.trans hk4)
  subst hcA; subst hcC
  obtain ⟨e1, e2, -, -⟩ := Jvm.Free.Multi.fill_facts (T.setVm vm₁) (D.2 5) (D.2 0) n.toNatClampNeg k.toNatClampNeg (defaultValue .int) n.toNatClampNeg
  have e3 := fun (j : Nat) (hj : j < n.toNatClampNeg) => Jvm.Free.Multi.fill_inner (T.setVm vm₁) (D.2 5) (D.2 0) n.toNatClampNeg k.toNatClampNeg (defaultValue .int) n.toNatClampNeg j hj
  have e4 := fun (a : Nat) (ha : a < (T.setVm vm₁).heap.size) => Jvm.Free.Multi.fill_old (T.setVm vm₁) (D.2 5) (D.2 0) n.toNatClampNeg k.toNatClampNeg (defaultValue .int) ha n.toNatClampNeg
  generalize hT1 : Jvm.Free.Multi.fill (T.setVm vm₁) (D.2 5) (D.2 0) n.toNatClampNeg k.toNatClampNeg (defaultValue .int) n.toNatClampNeg = T1 at X1 step e1 e2 e3 e4
  have hh0 : (T.setVm vm₁).heap = T.heap := rfl
  rw [hh0] at e1 e2 e3 e4
  have hn0 : T.heap.size = S.2.1 := hH.2.1
  have hH1 : gH D K S1 T1.heap := by
    rw [hS1]
    refine ⟨hH.1, by rw [e1, hn0]; show _ = S.2.1 + (1 + _); omega, hb1, hb2, fun a2 x2 h4 => ?_⟩
    have h4 : gGrid S.1 S.2.1 n.toNatClampNeg k.toNatClampNeg a2 = some x2 := h4
    unfold gGrid at h4
    by_cases ha : a2 = S.2.1
    · rw [if_pos ha] at h4
      cases h4
      rw [ha]
      refine ⟨gAt.of_arr ⟨(by decide : 5 < 6), ?_, fun h => by cases h⟩, fun _ => by rw [← hn0]; exact Nat.le_trans hX.2.2.1 hS.1⟩
      rw [← hn0, e2, gOuter, hn0]
      have h8 : arrV (D.2 5) n.toNatClampNeg (fun j => if j < n.toNatClampNeg then Value.ref (S.2.1 + 1 + j) else Value.null) = arrV (D.2 5) n.toNatClampNeg (fun j => va_rf (some (S.2.1 + 1 + j))) := gArrV_ext (fun j hj => by show (if j < n.toNatClampNeg then Value.ref (S.2.1 + 1 + j) else Value.null) = _; rw [if_pos hj]; rfl)
      exact congrArg some h8
    · rw [if_neg ha] at h4
      split at h4
      · rename_i ha
        cases h4
        refine ⟨gAt.of_arr ⟨(by decide : 0 < 6), ?_, fun h => by cases h⟩, fun _ => by have := Nat.le_trans hX.2.2.1 hS.1; omega⟩
        have h5 := e3 (a2 - S.2.1 - 1) (by omega)
        rw [show T.heap.size + 1 + (a2 - S.2.1 - 1) = a2 by omega] at h5
        rw [h5]
        show some ({ cls := D.2 0, slots := Array.replicate k.toNatClampNeg (defaultValue .int), vm := .none } : Cell) = _
        rw [arrV_new]
        rfl
      · obtain ⟨h6, h7⟩ := hH.2.2.2.2 a2 x2 h4
        exact ⟨h6.kept (e4 a2 h6.lt), h7⟩
  have hS2 : va_S (gA K) s.heap T1.heap locs := hS.push (n := 1 + n.toNatClampNeg) (by rw [e1]; omega) e4
  have hk5 := kk q S1 h2 T1.heap locs ls hH1 hS2 (by rw [hS1]; exact Nat.le_trans hu (Nat.le_add_right _ _)) hl
  rw [hS1, hq] at hk5
  have hk6 : W p l e R s m args below meth c T1.heap locs (S.2.1 + (1 + n.toNatClampNeg) - s.heap.size) (S.2.2.1 + (n.toNatClampNeg + n.toNatClampNeg * k.toNatClampNeg) - u0) Q (F0 m (pc + 4) ls (.ref S.2.1 :: st)) := hk5
  rw [← g_rm2 hsz, ← g_rm2 hu, ← hn0, ← Nat.add_assoc, ← Nat.add_assoc, hn0] at hk6
  obtain ⟨t, a1, b1⟩ := hk6 T1 rfl X1
  rw [← hn0] at a1
  exact ⟨t, step t a1, b1⟩
/-- a private method of a class above: whatever the receiver's class, it is the one that runs -/
theorem g_selP {s : State} {args : Array Value} {Cn : String} {x2 y2 y : MethodName} (hy : y.cls ≠ "java/lang/invoke/MethodHandle" ∧ y.cls ≠ "java/lang/invoke/VarHandle") (h2 : (Cond.selects Cn x2 y2).before args s = true) (hc2 : y2.cls = y.cls) (hpriv : (Cond.privateMethod y).before args s = true) (hinst : (Cond.instanceMethod y).before args s = true) :
    (Cond.selects Cn y y).before args s = true := by
  obtain ⟨c2, r2, m2, q1, q2, q3, q4, kP, hkP, hkPi⟩ := Cond.selects_spec h2
  obtain ⟨mk, methM, hnamed, hmethM, -, -⟩ := Cond.instanceMethod_spec hinst
  have hfound : s.methodFound? y.cls y.name y.desc = some mk := State.methodFound?_of_named hnamed hy
  have hsel : selectMethod {} s.vm c2 mk = .method mk := selectMethod_private hmethM (Cond.privateMethod_at hpriv mk methM hnamed hmethM)
  have hcl : mk.cls = m2.cls := by
    have e1 := findClass_of_methodNamed hnamed
    have e2 := findClass_of_methodNamed q3
    rw [hc2] at e2
    exact Option.some.inj (e1.symm.trans e2)
  simp only [Cond.before, Cond.holds, Cond.value, q1, hfound, hnamed, hsel, hcl, hkP]
  simp; exact hkPi
theorem g_runP (C : gCx p l R s m args meth c D K own cc nL ret hh nm u0) {y : MethodName} {bytes : ByteArray} {maxL n idx fr lo : Nat} {rt : Option FieldType} {As rest : List Value} {out : gO} {S1 : gS} {ci : Nat} {r : Option Nat} {T : u_T} {N : Nat} {Cn : String} (d : decode cc pc = .ok (.invokevirtual idx, 3)) (hci : gCl[ci]? = some (Cn, T, N)) (hr : oIs [ci] r S = true) (hM : gMet l D K y (ws_ y bytes maxL rt) fr lo (va_rf r :: As) S out S1) (hcode : Cond.code y bytes maxL rt ∈ lw_all) (hini : Cond.initialized y.cls ∈ lw_all) (hlk : Cond.methodLink own idx y ∈ lw_all) (hsm : Cond.sameMethod y.cls y.cls y.name y.desc ∈ lw_all) (hse : gSelE = Cond.selects Cn y y) (hin : Cond.instanceMethod y ∈ lw_all)
    (hd : y.cls ≠ "java/lang/invoke/MethodHandle" ∧ y.cls ≠ "java/lang/invoke/VarHandle" ∧ (parseMethodDescriptor y.desc).map (fun d => d.parameters.length) = some n) (hR : fr + 1 ≤ R.frames ∧ 8 + (maxL + 11) + lo ≤ R.locals) (hn : As.length = n) (hst : st = As.reverse ++ va_rf r :: rest) (hc : (rest.map fun v => v.category).sum ≤ 8) :
    gRun p l e R s m args below meth c D K nL u0 S pc lv st rest (va_rf r :: As).toArray out S1 := by
  intro H locs ls hH hS hu hl
  obtain ⟨b, rfl, hrec⟩ := gSplit C hH hci hr
  have hts := C.2.2.2.2.2.2.2.1
  have hlen : ∀ sig, parseMethodDescriptor y.desc = some sig → n = sig.parameters.length := fun sig h => by
    have h2 := hd.2.2
    rw [h] at h2
    exact (Option.some.inj h2).symm
  exact vx_runU (n := n) (x := y) (owner := y.cls) ⟨C.1, C.2.1, C.2.2.1, C.2.2.2.1, C.2.2.2.2.2.2.2.1⟩ hM ⟨⟨rfl, rfl, hR.1, hR.2, pay_in hts (lw_meth hcode), List.mem_cons_self⟩, hts _ hcode, hts _ hini, ⟨hd.1, hd.2.1⟩, hlen, hts _ hlk, hts _ hsm, gDecl.use C (Or.inl ⟨hin, _, _, _, hcode⟩), (by have h9 := C.2.2.2.2.2.2.2.2.1.2.2.2.2.2.2.2.2.2.2.2.1; rw [hse] at h9; exact va_Nw.use rfl h9), hts _ hin⟩ ⟨gBlind, hrec, gPre_of C hH hS _⟩ rfl hn hl.1 hst (g_mr st hc) d (g_fit C hH hS hu)
/-- super.m(..) -/
theorem g_runSU (C : gCx p l R s m args meth c D K own cc nL ret hh nm u0) {y : MethodName} {bytes : ByteArray} {maxL n idx fr lo : Nat} {rt : Option FieldType} {As rest : List Value} {out : gO} {S1 : gS} {ci : Nat} {r : Option Nat} {T : u_T} {N : Nat} {Cn : String} (d : decode cc pc = .ok (.invokespecial idx, 3)) (hci : gCl[ci]? = some (Cn, T, N)) (hr : oIs [ci] r S = true) (hM : gMet l D K y (ws_ y bytes maxL rt) fr lo (va_rf r :: As) S out S1) (hcode : Cond.code y bytes maxL rt ∈ lw_all) (hini : Cond.initialized y.cls ∈ lw_all) (hlk : Cond.methodLink own idx y ∈ lw_all) (hsm : Cond.sameMethod y.cls y.cls y.name y.desc ∈ lw_all) (hsup : Cond.superclass own y.cls ∈ lw_all) (hin : Cond.instanceMethod y ∈ lw_all) (hy : y.name ≠ "<init>")
    (hd : (parseMethodDescriptor y.desc).map (fun d => d.parameters.length) = some n) (hR : fr + 1 ≤ R.frames ∧ 8 + (maxL + 11) + lo ≤ R.locals) (hn : As.length = n) (hst : st = As.reverse ++ va_rf r :: rest) (hc : (rest.map fun v => v.category).sum ≤ 8) :
    gRun p l e R s m args below meth c D K nL u0 S pc lv st rest (va_rf r :: As).toArray out S1 := by
  intro H locs ls hH hS hu hl
  obtain ⟨b, rfl, hrec⟩ := gSplit C hH hci hr
  have hts := C.2.2.2.2.2.2.2.1
  have hlen : ∀ sig, parseMethodDescriptor y.desc = some sig → n = sig.parameters.length := fun sig h => by
    have h2 := hd
    rw [h] at h2
    exact (Option.some.inj h2).symm
  exact vx_runSU (n := n) (C.2.2.2.2.2.2.2.2.1.1.1 ci _ hci).2 ⟨C.1, C.2.1, C.2.2.1, C.2.2.2.1, C.2.2.2.2.2.2.2.1⟩ hM ⟨⟨rfl, rfl, hR.1, hR.2, pay_in hts (lw_meth hcode), List.mem_cons_self⟩, hts _ hlk, hts _ hsm, hts _ hsup, hts _ hin, hts _ hini, hts _ hcode, hy, hlen⟩ ⟨gBlind, hrec, gPre_of C hH hS _⟩ rfl hn hl.1 hst (g_mr st hc) d (g_fit C hH hS hu)
/-- Math.max, Math.min -/
theorem gmm_max : Cond.code Lib.Math.max.name Lib.Math.max.code 2 (some .int) = Cond.code yJ12_max cJ12_max 2 (some .int) := by decide +kernel
theorem gmm_min : Cond.code Lib.Math.min.name Lib.Math.min.code 2 (some .int) = Cond.code yJ12_min cJ12_min 2 (some .int) := by decide +kernel
theorem g_mmax (C : gCx p l R s m args meth c D K own cc nL ret hh nm u0) {idx : Nat} {x y : Int32} (d : decode cc pc = .ok (.invokestatic idx, 3)) (hlk : Cond.methodLink own idx yJ12_max ∈ lw_all) (hst : Cond.static yJ12_max ∈ lw_all) (hini : Cond.initialized "java/lang/Math" ∈ lw_all) (hcode : Cond.code yJ12_max cJ12_max 2 (some .int) ∈ lw_all) (hR : 1 ≤ R.frames ∧ 22 ≤ R.locals) (hc : (st.map fun v => v.category).sum ≤ 8)
    (k : gW p l e R s m args below meth c D K nL u0 Q S (pc + 3) lv (.int (if x < y then y else x) :: st)) : gW p l e R s m args below meth c D K nL u0 Q S pc lv (.int y :: .int x :: st) := by
  intro H locs ls hH hS hu hl
  have hts := C.2.2.2.2.2.2.2.1
  have h9 := g_fit C hH hS hu
  exact va_mmax C.1 C.2.1 (by rw [C.2.2.1]; exact hl.1.symm) C.2.2.2.1 (hts _ hlk) (hts _ hst) (hts _ hini) (by rw [gmm_max]; exact hts _ hcode) hR.1 (by have := hR.2; omega) (by omega) (by omega) d (k H locs ls hH hS hu hl)
theorem g_mmin (C : gCx p l R s m args meth c D K own cc nL ret hh nm u0) {idx : Nat} {x y : Int32} (d : decode cc pc = .ok (.invokestatic idx, 3)) (hlk : Cond.methodLink own idx yJ12_min ∈ lw_all) (hst : Cond.static yJ12_min ∈ lw_all) (hini : Cond.initialized "java/lang/Math" ∈ lw_all) (hcode : Cond.code yJ12_min cJ12_min 2 (some .int) ∈ lw_all) (hR : 1 ≤ R.frames ∧ 22 ≤ R.locals) (hc : (st.map fun v => v.category).sum ≤ 8)
    (k : gW p l e R s m args below meth c D K nL u0 Q S (pc + 3) lv (.int (if y < x then y else x) :: st)) : gW p l e R s m args below meth c D K nL u0 Q S pc lv (.int y :: .int x :: st) := by
  intro H locs ls hH hS hu hl
  have hts := C.2.2.2.2.2.2.2.1
  have h9 := g_fit C hH hS hu
  exact va_mmin C.1 C.2.1 (by rw [C.2.2.1]; exact hl.1.symm) C.2.2.2.1 (hts _ hlk) (hts _ hst) (hts _ hini) (by rw [gmm_min]; exact hts _ hcode) hR.1 (by have := hR.2; omega) (by omega) (by omega) d (k H locs ls hH hS hu hl)
/-- a call that goes by the receiver's class: one of the classes has a method with this answer -/
def gPoly (l : Launch) (D : gD) (K : gK) (x : MethodName) (fr0 lo0 : Nat) (r : Option Nat) (As : List Value) (S : gS) (out : gO) (S1 : gS) : Prop :=
  ∃ (ci : Nat) (T : u_T) (N : Nat) (Cn : String) (y : MethodName) (bytes : ByteArray) (maxL : Nat) (rt : Option FieldType) (fr lo : Nat), gCl[ci]? = some (Cn, T, N) ∧ oIs [ci] r S = true ∧ gMet l D K y (ws_ y bytes maxL rt) fr lo (va_rf r :: As) S out S1 ∧ Cond.code y bytes maxL rt ∈ lw_all ∧ Cond.initialized y.cls ∈ lw_all ∧ Cond.selects Cn x y ∈ lw_all ∧ Cond.instanceMethod y ∈ lw_all ∧ fr + 1 ≤ fr0 ∧ 8 + (maxL + 11) + lo ≤ lo0
theorem g_runPoly (C : gCx p l R s m args meth c D K own cc nL ret hh nm u0) {x : MethodName} {n idx fr0 lo0 : Nat} {As rest : List Value} {out : gO} {S1 : gS} {owner : String} {r : Option Nat} (d : decode cc pc = .ok (.invokevirtual idx, 3)) (hp : gPoly l D K x fr0 lo0 r As S out S1) (hlk : Cond.methodLink own idx x ∈ lw_all) (hsm : Cond.sameMethod x.cls owner x.name x.desc ∈ lw_all) (hdc : gDecl ⟨owner, x.name, x.desc⟩)
    (hd : owner ≠ "java/lang/invoke/MethodHandle" ∧ owner ≠ "java/lang/invoke/VarHandle" ∧ (parseMethodDescriptor x.desc).map (fun d => d.parameters.length) = some n) (hR : fr0 ≤ R.frames ∧ lo0 ≤ R.locals) (hn : As.length = n) (hst : st = As.reverse ++ va_rf r :: rest) (hc : (rest.map fun v => v.category).sum ≤ 8) :
    gRun p l e R s m args below meth c D K nL u0 S pc lv st rest (va_rf r :: As).toArray out S1 := by
  obtain ⟨ci, T, N, Cn, y, bytes, maxL, rt, fr, lo, h1, h2, h3, h4, h5, h6, h7, h8, h9⟩ := hp
  exact g_runU C d h1 h2 h3 h4 h5 hlk hsm hdc h6 h7 hd ⟨Nat.le_trans h8 hR.1, Nat.le_trans h9 hR.2⟩ hn hst hc
/-- invokestatic, where the reference names a class below the one that declares the method -/
theorem g_coldUp {Q : Unit → Pre} {E : CtlPost} {e : Env} {d : Bool} {acts : List Action} {s s₀ : State} {f : JFrame} {index ci n c : Nat} {m : MethodId} {dk ck : Class} {cf : ClassFile} {name desc : String} (hs : s.topJava?.isSome) (hp : e.platform.polymorphicOnlyByInvokevirtual = true)
    (hW : s₀.WarmedH s.vm) (hE : s₀.MethodEntryUp e s.vm f.method.cls index c m ci) (h1 : s₀.vm.classes[f.method.cls]? = some dk) (h2 : dk.cf = some cf)
    (h3 : cf.constantPool[index]? = some (if false then .interfaceMethodref ci n else .methodref ci n)) (h4 : cf.constantPool.nameAndType? n = some (name, desc))
    (hck : s₀.vm.classes[c]? = some ck) (hno : (ck.methods.any fun x => x.name == name && !x.isStatic && signaturePolymorphic ck x) = false) :
    wp (invokestatic.sem index) Q E e d acts (s.setTop f) ↔ wp (invokestatic.sem index) Q E e d acts ((s.setVm (s.vm.calledUp f.method.cls ci index c m)).setTop f) := by
  obtain ⟨gc, -, w1, gm⟩ := hE.classFirst
  obtain ⟨_, ka, ea⟩ := hW.alike.2.2 _ _ h1
  obtain ⟨_, kb, eb⟩ := hE.warmed.alike.2.2 _ _ h1
  obtain ⟨c1, ca, fa⟩ := w1.alike.2.2 _ _ hck
  obtain ⟨c2, cb, fb⟩ := hE.warmed.alike.2.2 _ _ hck
  have ma := memberRef_ask_via (e := e) ka (by rw [ea]; exact h2) h3 h4
  have mb := memberRef_ask_via (e := e) kb (by rw [eb]; exact h2) h3 h4
  have na : (c1.methods.any fun x => x.name == name && !x.isStatic && signaturePolymorphic c1 x) = false := by rw [fa]; exact hno
  have nb : (c2.methods.any fun x => x.name == name && !x.isStatic && signaturePolymorphic c2 x) = false := by rw [fb]; exact hno
  have s1 : (s.setVm (s.vm.noted f.method.cls ci (.cls c))).topJava?.isSome := hs
  have s2 : (s.setVm (s.vm.calledUp f.method.cls ci index c m)).topJava?.isSome := hs
  have hL : ∀ {Q' : ClassId → Pre} {d' : Bool} {acts' : List Action}, wp (Jvm.resolveClassAt ci) Q' E e d' acts' (s.setTop f) ↔ Q' c d' acts' ((s.setVm (s.vm.noted f.method.cls ci (.cls c))).setTop f) :=
    W.resolveClassAt_links (t := s.setTop f) (State.method?_setTop f hs) gc
  have hM : ∀ {Q' : MethodId → Pre} {d' : Bool} {acts' : List Action}, wp (Jvm.resolveMethodAt index) Q' E e d' acts' ((s.setVm (s.vm.noted f.method.cls ci (.cls c))).setTop f) ↔ Q' m d' acts' ((s.setVm (s.vm.calledUp f.method.cls ci index c m)).setTop f) :=
    W.resolveMethodAt_links (t := (s.setVm (s.vm.noted f.method.cls ci (.cls c))).setTop f) (State.method?_setTop f s1) gm
  simp [invokestatic.sem, hp, Seam.memberRefOf, State.method?_setTop f hs, State.method?_setTop f s2, ma, mb, hL, hM, W.resolveClassAt_ready (State.method?_setTop f s2) hE.classReady, W.resolveMethodAt_ready (State.method?_setTop f s2) hE.ready, ca, cb, na, nb, -Array.any_eq_true]
theorem g_statUp {T : State} {locs : List Loc} {cells slots : Nat} (X : Stand p l e R s m args below meth c T locs cells slots) (hexec : p.tables.exec = Jvm.exec) {own up : String} {index : Nat} {x : MethodName} (hown : s.vm.findClass own = some m.cls) (hlink : (Cond.methodLink own index x).before args s = true) (hsame : (Cond.sameMethod x.cls up x.name x.desc).before args s = true) (hup : up ≠ "java/lang/invoke/MethodHandle" ∧ up ≠ "java/lang/invoke/VarHandle")
    {m1 : MethodId} {me1 : Method} {k1 : Class} (hn : s.methodNamed? ⟨up, x.name, x.desc⟩ = some m1) (hm1 : s.vm.method? m1 = some me1) (hst : me1.isStatic = true) (hk1 : s.vm.classes[m1.cls]? = some k1) (hini : k1.init = .initialized)
    {g : JFrame} (hg : g.method = m) {As rest : List Value} (hlen : As.length = me1.sig.parameters.length) (hstack : g.stack = As.reverse ++ rest) (hdg : decode c.code g.pc = .ok (.invokestatic index, 3)) :
    ∃ v1, Stand p l e R s m args below meth c (T.setVm v1) locs cells slots ∧ ∀ target, (∀ acts, Steps p.tables e below (doInvoke e ((T.setVm v1).setTop { g with stack := rest }) acts m1 As.toArray).1 target) → Steps p.tables e below (T.setTop g) target := by
  have hpv : e.platform.polymorphicOnlyByInvokevirtual = true := by rw [X.admits.platform]
  obtain ⟨cn, ck, r1, hcn, hck, hni, hf, hn1⟩ := Cond.sameMethod_found hsame
  cases hn.symm.trans hn1
  obtain ⟨ci, hl, hright⟩ := Cond.methodLink_specUp hown hcn hck hni hf hlink e.platform (by rw [X.admits.platform]) (by rw [X.admits.platform])
  have hE : s.MethodEntryUp e T.vm m.cls index cn m1 ci := State.methodEntryUp X.warmed hl hright
  obtain ⟨kx, hkx, hnx⟩ := className_of_methodNamed hn
  cases hk1.symm.trans hkx
  obtain ⟨dk, cfile, nt, mname, mdesc, ck1, _, _, hd, hcf, hcp, hnt, -, -, hck1, -, hnp, -⟩ := hl.here
  cases hck.symm.trans hck1
  have al := hE.warmed.alike
  obtain ⟨dk2, hdk2, hed2⟩ := al.2.2 _ _ hd
  obtain ⟨k2, hk2, he2⟩ := al.2.2 _ _ hk1
  obtain ⟨ck2, hck2, hec2⟩ := al.2.2 _ _ hck
  have hno : (ck.methods.any fun y => y.name == mname && !y.isStatic && signaturePolymorphic ck y) = false := by simp [hnp]
  have hno2 : (ck2.methods.any fun y => y.name == mname && !y.isStatic && signaturePolymorphic ck2 y) = false := by rw [hec2]; exact hno
  refine ⟨T.vm.calledUp m.cls ci index cn m1, X.noted hE.warmed, fun target hrest => ?_⟩
  subst hg
  jvm_step X.here [hexec, hdg, g_coldUp (e := e) (s := T) (s₀ := s) (f := g) X.here.top hpv X.warmed hE hd hcf hcp hnt hck hno,
    invokestatic.wp_ready (e := e) (s := T.setVm (T.vm.calledUp g.method.cls ci index cn m1)) (k := k2) (meth := me1) (m := m1) (args := As) (rest := rest) (f := g)
      X.here.top ⟨ci, mname, mdesc, false, cn, ck2, memberRef_ask_via (e := e) hdk2 (by rw [hed2]; exact hcf) hcp hnt, hE.classReady, hck2, hno2⟩ hE.ready hk2
      (by show (T.vm.calledUp g.method.cls ci index cn m1).method? m1 = some me1; rw [al.method?]; exact hm1)
      (by rw [he2]; show signaturePolymorphic k1 me1 = false; simp [signaturePolymorphic, hnx, hup.1, hup.2]) hst (by rw [he2]; exact hini) hlen hstack]
  exact fun acts => hrest _
/-- a static method named through a class below its own -/
theorem g_runSU9 (C : gCx p l R s m args meth c D K own cc nL ret hh nm u0) {x y : MethodName} {bytes : ByteArray} {maxL n idx fr lo : Nat} {rt : Option FieldType} {As rest : List Value} {out : gO} {S1 : gS} (d : decode cc pc = .ok (.invokestatic idx, 3)) (hM : gMet l D K y (ws_ y bytes maxL rt) fr lo As S out S1) (hcode : Cond.code y bytes maxL rt ∈ lw_all) (hini : Cond.initialized y.cls ∈ lw_all) (hlk : Cond.methodLink own idx x ∈ lw_all) (hsm : Cond.sameMethod x.cls y.cls x.name x.desc ∈ lw_all) (hst9 : Cond.static y ∈ lw_all) (hnm : y.name = x.name) (hds : y.desc = x.desc)
    (hd : y.cls ≠ "java/lang/invoke/MethodHandle" ∧ y.cls ≠ "java/lang/invoke/VarHandle" ∧ (parseMethodDescriptor y.desc).map (fun d => d.parameters.length) = some n) (hR : fr + 1 ≤ R.frames ∧ 8 + (maxL + 11) + lo ≤ R.locals) (hn : As.length = n) (hst : st = As.reverse ++ rest) (hc : (rest.map fun v => v.category).sum ≤ 8) :
    gRun p l e R s m args below meth c D K nL u0 S pc lv st rest As.toArray out S1 := by
  intro H locs ls hH hS hu hl
  have hts := C.2.2.2.2.2.2.2.1
  have hlen : ∀ sig, parseMethodDescriptor y.desc = some sig → n = sig.parameters.length := fun sig h => by
    have h2 := hd.2.2
    rw [h] at h2
    exact (Option.some.inj h2).symm
  have hf := g_fit C hH hS hu
  have hK : vx_Back l R p e below s args y 3 8 (PreOf R (gLim K - S.2.1) (gUB - S.2.2.1) (va_Pc As (fun U => gH D K S U.heap ∧ gX D K U))) (PostOf (gQc D K S.2.2.1 out S1) (S1.2.1 - S.2.1) (S1.2.2.1 - S.2.2.1) (gA K)) (vx_Post (gXC D K S.2.2.1 out S1) (S1.2.1 - S.2.1) (S1.2.2.1 - S.2.2.1) (gA K)) := vx_back (bytes := bytes) (maxL := maxL) (ret := rt) hM gBlind hR.1 hR.2 (pay_in hts (lw_meth hcode)) List.mem_cons_self (fun a' U hW => word_at hW (Or.inl (by first | rfl | simp [Cond.onTables, Cond.keeps, Cond.steady])) (hts _ hini))
  intro T hT X
  obtain ⟨mk, hnamed⟩ := Cond.code_named (hts _ hcode)
  obtain ⟨methM, cM, hmethM, -, -, -, -, -, -, hsigM⟩ := Cond.code_spec hnamed (hts _ hcode)
  have hstatic : methM.isStatic = true := Cond.static_spec hnamed hmethM (hts _ hst9)
  obtain ⟨kP, hkP, -⟩ := className_of_methodNamed hnamed
  have hinitP : kP.init = .initialized := Cond.initialized_spec (findClass_of_methodNamed hnamed) hkP (hts _ hini)
  have hnamed2 : s.methodNamed? ⟨y.cls, x.name, x.desc⟩ = some mk := by rw [← hnm, ← hds]; exact hnamed
  obtain ⟨vm₁, X₁, hstep₁⟩ := g_statUp X C.1 C.2.2.2.1 (hts _ hlk) (hts _ hsm) ⟨hd.1, hd.2.1⟩ hnamed2 hmethM hstatic hkP hinitP (g := F0 m pc ls st) rfl (As := As) (rest := rest) (hn.trans (hlen _ hsigM)) hst (by rw [C.2.1]; exact d)
  rcases hK m meth c ⟨T.setVm vm₁, locs, S.2.1 - s.heap.size, S.2.2.1 - u0⟩ { (F0 m pc ls st) with stack := rest } (.invokestatic idx) mk As.toArray X₁ rfl (by rw [C.2.2.1]; exact hl.1) (by rw [C.2.1]; exact d) (g_mr (m := m) (pc := pc) (ls := ls) st hc) (X₁.named hnamed) ⟨hf.1, hf.2, gPre_of C hH hS As (T.setVm vm₁) hT X₁.warmed⟩ with ⟨v, ⟨U', l2, c2, s2⟩, X', ⟨g', mk', t, L, e1, e2, hq, h1, hL, h2, h3⟩, hsteps⟩ | ⟨q, ⟨U', l2, c2, s2⟩, X', ⟨g', mk', t, L, E, ce, e1, e2, hq, hce, hcv, hcl, h1, hL, h2, h3⟩, hsteps⟩
  · dsimp only [Pt.U, Pt.locs, Pt.cells, Pt.slots] at X' e1 e2 h1 h2 h3 hsteps
    subst h1; subst h2; subst h3
    exact Or.inl ⟨v, (T.setVm vm₁).calling g' mk' As.toArray, t, U', L, hT, X', hL, e1, e2, hq, fun target h => hstep₁ _ fun acts => by rw [doInvoke_state]; exact hsteps.trans h⟩
  · dsimp only [Pt.U, Pt.locs, Pt.cells, Pt.slots] at X' e1 e2 h1 h2 h3 hsteps hcl
    subst h1; subst h2; subst h3
    exact Or.inr ⟨q, (T.setVm vm₁).calling g' mk' As.toArray, t, U', L, E, ce, hT, X', hL, e1, e2, hq, hce, hcv, vx_cls X₁.warmed hcl, hstep₁ _ fun acts => by rw [doInvoke_state]; exact hsteps⟩
/-- the second of two handlers: the first covers the place but is for another class -/
theorem g_catchN (C : gCx p l R s m args meth c D K own cc nL ret hh nm u0) {q ci : Nat} {name : String} {T : u_T} {N : Nat} {x0 x : ExceptionTableEntry} (hx0 : (tableOf hh)[0]? = some x0) (hx : (tableOf hh)[1]? = some x) (hcov : covers x pc = true) (h00 : x0.catchType ≠ 0) (h0 : x.catchType ≠ 0) (hci : gCl[ci]? = some ("java/lang/IllegalArgumentException", T, N)) (hlk0 : Cond.classLink own x0.catchType "java/util/NoSuchElementException" ∈ lw_all) (hlk : Cond.classLink own x.catchType name ∈ lw_all) (hcast : Cond.castable "java/lang/IllegalArgumentException" name ∈ lw_tbl)
    (k : gW p l e R s m args below meth c D K nL u0 Q S x.handlerPc lv [va_rf (some q)]) : gWx p l e R s m args below meth c D K nL u0 Q S pc lv st q ci := by
  intro H locs ls r1 ce hH hS hu hl hr1 hce hvm hcl
  cases hr1.symm.trans hci
  have hts := C.2.2.2.2.2.2.2.1
  have hX := C.2.2.2.2.2.2.2.2.1
  refine vx_catch (name := name) (E := "java/lang/IllegalArgumentException") (ce := ce) C.2.2.2.1 [x0] x ((tableOf hh).drop 2) ?_ (fun z hz => Or.inr ?_) hcov h0 (hts _ hlk) (va_Nw.use rfl (hX.2.1 _ hcast rfl)) hce hvm hcl (k H locs ls hH hS hu hl)
  · rw [C.2.2.2.2.2.2.1]
    match hq : tableOf hh with
    | [] => rw [hq] at hx0; cases hx0
    | [a] => rw [hq] at hx; cases hx
    | a :: b :: rest =>
      rw [hq] at hx0 hx
      cases hx0; cases hx
      rfl
  · rw [List.mem_singleton] at hz
    subst hz
    exact ⟨h00, _, hts _ hlk0, hX.2.2.2.2.2.2.2.2.2.2.2.2⟩
end GM2
