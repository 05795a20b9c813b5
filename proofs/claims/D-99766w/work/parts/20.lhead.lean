/-! THE CLAIM OUT OF ONE WALK OF THE LAW'S BODY. Your part is whole_start (and what it stands on); all else here is the same for every law, but numbers. -/
def R_law : String := "VowelChoirLaw"
def lw_P (b : Addr) (xs : List Int32) (args : Array Value) (s : State) : Prop := args = #[.ref b] ∧ s.IntsAt b xs ∧ xs.length ≤ 576 ∧ (Jvm.Cond.and given_1 narrow_1).before args s = true
def lw_Q (_ : Array Value) (s : State) (o : Outcome) (t : State) : Prop := o = .returned (some (.int 1)) ∧ Framed s o t [] 601024 7293034
def lw_Z (below : List Frame) (a : Array Value) (s : State) : State → Prop := fun t => ∃ o, t.status = .running ∧ Ended t below o ∧ lw_Q a s o t
/-- the law's own end, with 1 on the stack, nothing written that was there before, its room as the claim has it -/
theorem lw_ret {p : Program} {l : Launch} {e : Env} {s : State} {m : MethodId} {below : List Frame} {meth : Method} {c : Code} {b : Nat} (hx : p.tables.exec = Jvm.exec) (hb : c.code = code) (hr : meth.sig.returnType = ret) (hlocks : meth.locks = false) {pc : Nat} {H : Heap} {ls : Array Slot} (hdg : decode code pc = .ok (.ireturn, 1)) : W p l e room_1 s m #[Value.ref b] below meth c H [] 601024 7293034 (lw_Z below #[Value.ref b] s) (F0 m pc ls [.int 1]) := by
  intro T hT X
  obtain ⟨fs, hret, hrun, hended, hW, hframe⟩ := X.leave (v := some (.int 1)) (hlocks := hlocks) (fun h => by rw [hr] at h; cases h)
  have hmeth' : T.vm.method? m = some meth := X.method'
  refine ⟨T.setFrames fs, ?_, .returned (some (.int 1)), hrun, hended, rfl, ⟨_, rfl⟩, hW, hframe⟩
  jvm_step X.here [X.here.top, hx, hb, hdg, hmeth', hr, ret, narrow_b1]
  (try refine ⟨rfl, ?_⟩); (try refine ⟨rfl, ?_⟩)
  first | (intro acts; rw [hret _ acts rfl rfl rfl]) | rw [hret _ _ rfl rfl rfl]
  exact Steps.refl _
/-- what holds at the law's entry: the machine, the code, the tables' words (any of lw_tbl by 'hts w (by decide +kernel)'), the script of L ints xs at the cell b, what the Statement gives of the start (any of its parts by flat_of_before) -/
def lw_At (p : Program) (s : State) (m : MethodId) (meth : Method) (c : Code) (b L : Nat) (xs : Nat → Int32) : Prop :=
  p.tables.exec = Jvm.exec ∧ c.code = code ∧ meth.sig.returnType = ret ∧ c.maxLocals = 8 ∧ s.vm.findClass R_law = some m.cls ∧ (∀ w ∈ lw_tbl, w.before #[Value.ref b] s = true) ∧ va_X b L xs s s.heap ∧ b < s.heap.size ∧ meth.locks = false ∧ (Jvm.Cond.and given_1 narrow_1).before #[Value.ref b] s = true
section GLW
variable {p : Program} {l : Launch} {e : Env} {R : Room} {s : State} {m : MethodId} {args : Array Value} {below : List Frame} {meth : Method} {c : Code} {D : gD} {K : gK} {nL u0 : Nat} {Q : State → Prop} {S : gS} {pc : Nat} {lv : List (Nat × Value)} {st : List Value} {own : String} {hh : List (Nat × Nat × Nat × Nat)} {nm : String}
/-- what stands fast in the law's own body; the script -/
def gLaw (R : Room) (K : gK) (s : State) (u0 : Nat) (args : Array Value) (b L : Nat) (xs : Nat → Int32) : Prop := R = room_1 ∧ K.1 = s.heap.size ∧ u0 = 0 ∧ args = #[Value.ref b] ∧ va_X b L xs s s.heap ∧ b < s.heap.size
def oScr (L : Nat) (xs : Nat → Int32) (i : Int32) : Option Int32 := if i < 0 ∨ L ≤ i.toNatClampNeg then none else some (xs i.toNatClampNeg)
theorem g_law0 {ρ : Prop} {S S1 : gS} (h : some ((0 : Int32), S) = some ((1 : Int32), S1)) : ρ := by
  have h1 : (0 : Int32) = 1 := congrArg Prod.fst (Option.some.inj h)
  exact absurd h1 (by decide)
theorem g_sld (C : gCx p l R s m args meth c D K own code nL ret hh nm u0) {b L : Nat} {xs : Nat → Int32} (hL : gLaw R K s u0 args b L xs) {ρ : Type} {i : Int32} {f : Int32 → Option ρ} {o : ρ} (d : decode code pc = .ok (.iaload, 1)) (hF : (oScr L xs i).bind f = some o)
    (kk : ∀ x, f x = some o → gW p l e R s m args below meth c D K nL u0 Q S (pc + 1) lv (.int x :: st)) : gW p l e R s m args below meth c D K nL u0 Q S pc lv (.int i :: va_rf (some b) :: st) := by
  intro H locs ls hH hS hu hl
  obtain ⟨x, h1, h2⟩ := oB hF
  unfold oScr at h1
  by_cases hi : i < 0 ∨ L ≤ i.toNatClampNeg
  · rw [if_pos hi] at h1; cases h1
  · rw [if_neg hi] at h1
    cases h1
    obtain ⟨-, hK, -, -, hX, hb⟩ := hL
    exact va_sld C.1 C.2.1 hX hb (fun h => absurd hb (Nat.not_lt.mpr (by rw [← hK]; exact h))) hS hi d (kk _ h2 H locs ls hH hS hu hl)
theorem g_slen (C : gCx p l R s m args meth c D K own code nL ret hh nm u0) {b L : Nat} {xs : Nat → Int32} (hL : gLaw R K s u0 args b L xs) (d : decode code pc = .ok (.arraylength, 1))
    (kk : gW p l e R s m args below meth c D K nL u0 Q S (pc + 1) lv (.int (Int32.ofNat L) :: st)) : gW p l e R s m args below meth c D K nL u0 Q S pc lv (va_rf (some b) :: st) := by
  intro H locs ls hH hS hu hl
  obtain ⟨-, hK, -, -, hX, hb⟩ := hL
  exact va_slen C.1 C.2.1 hX hb (fun h => absurd hb (Nat.not_lt.mpr (by rw [← hK]; exact h))) hS d (kk H locs ls hH hS hu hl)
/-- the law returns 1 -/
theorem g_law1 (C : gCx p l R s m args meth c D K own code nL ret hh nm u0) {b L : Nat} {xs : Nat → Int32} (hL : gLaw R K s u0 args b L xs) (d : decode code pc = .ok (.ireturn, 1)) : gW p l e R s m args below meth c D K nL u0 (lw_Z below args s) S pc lv [.int 1] := by
  intro H locs ls hH hS hu hl
  obtain ⟨rfl, hK, rfl, rfl, -, -⟩ := hL
  have h1 : S.2.1 ≤ K.1 + 601024 := hH.2.2.1
  have h2 : S.2.2.1 ≤ 7293034 := hH.2.2.2.1
  have h9 := lw_ret (p := p) (l := l) (e := e) (m := m) (meth := meth) (c := c) (below := below) (s := s) (b := b) (H := H) (ls := ls) C.1 C.2.1 C.2.2.2.2.1 C.2.2.2.2.2.1 d
  refine va_forget (fun q hq => ?_) ?_
  · have h3 : K.1 ≤ q.base := hS.2.2 q hq
    rw [← hK]
    exact h3
  · exact fun T hT X => h9 T hT (stand_widen X (by omega) (by omega))
end GLW
