section GAR
variable {p : Program} {l : Launch} {e : Env} {R : Room} {s : State} {m : MethodId} {args : Array Value} {below : List Frame} {meth : Method} {c : Code} {D : gD} {K : gK} {nL u0 : Nat} {Q : State → Prop} {S : gS} {pc : Nat} {lv : List (Nat × Value)} {st : List Value} {own : String} {cc : ByteArray} {ret : Option FieldType} {hh : List (Nat × Nat × Nat × Nat)} {nm : String}
/-- the class of an array by its kind -/
theorem gKd (C : gCx p l R s m args meth c D K own cc nL ret hh nm u0) {kd : Nat} (h : kd < 6) : ArrOfT s (D.2 kd) (gTy kd) ∧ va_RA s (D.2 kd) (gTy kd) := by
  have h1 := C.2.2.2.2.2.2.2.2.1.1.2
  match kd, h with
  | 0, _ => exact h1 0 _ rfl
  | 1, _ => exact h1 1 _ rfl
  | 2, _ => exact h1 2 _ rfl
  | 3, _ => exact h1 3 _ rfl
  | 4, _ => exact h1 4 _ rfl
  | 5, _ => exact h1 5 _ rfl
  | k + 6, h => omega
/-- an array as a load sees it -/
theorem gLd (C : gCx p l R s m args meth c D K own cc nL ret hh nm u0) {a kd n : Nat} {b : Bool} {x : (Nat → Int32) ⊕ (Nat → Int64) ⊕ (Nat → UInt32) ⊕ (Nat → UInt64) ⊕ (Nat → Option Nat)} {H : Heap} {f : Nat → Value} (hf : vp_cell (D.2 kd) (n, x) = arrV (D.2 kd) n f) (h : gAt D a (b, .inr (kd, n, x)) H) : ∃ cell : Cell, H[a]? = some cell ∧ s.isArrayOf cell (gTy kd) ∧ cell.vm ≠ .unknown ∧ (n ≤ cell.slots.size ∧ cell.slots.size.toInt32 = Int32.ofNat n) ∧ ∀ j, j < n → cell.slots[j]? = some (f j) := by
  obtain ⟨h0, h1, cell, h2, h3, h4, h5, h6, h7, h8⟩ := h
  obtain ⟨-, k, hk, comp, hkind⟩ := (gKd C h0).1 n f
  refine ⟨cell, h2, ⟨(fun q hq => by rw [hq] at h4; cases h4), k, by rw [h3]; exact hk, comp, hkind⟩, h5, h7, fun j hj => ?_⟩
  rw [h8 j hj]
  show (vp_cell (D.2 kd) (n, x)).slots[j]? = _
  rw [hf, arrV_read _ _ hj]
theorem oArr_obj {kd : Nat} {r : Option Nat} {S : gS} {a : vp_A} (h : oArr kd r S = some a) : ∃ (q : Nat) (b : Bool), r = some q ∧ S.1 q = some (b, .inr (kd, a)) := by
  unfold oArr at h
  split at h
  · rename_i b k a2 hg
    obtain ⟨q, h1, h2⟩ := gGet_obj hg
    split at h
    · rename_i hk
      subst hk
      cases h
      exact ⟨q, b, h1, h2⟩
    · cases h
  · cases h
theorem oLdI_obj {kd : Nat} {r : Option Nat} {i x : Int32} {S : gS} (h : oLdI kd r i S = some x) : ∃ (q : Nat) (b : Bool) (n : Nat) (f : Nat → Int32), r = some q ∧ S.1 q = some (b, .inr (kd, n, .inl f)) ∧ ¬ (i < 0 ∨ n ≤ i.toNatClampNeg) ∧ x = f i.toNatClampNeg := by
  unfold oLdI at h
  split at h
  · rename_i n f hg
    obtain ⟨q, b, h1, h2⟩ := oArr_obj hg
    split at h
    · cases h
    · rename_i hi
      exact ⟨q, b, n, f, h1, h2, hi, (Option.some.inj h).symm⟩
  · cases h
theorem oLdL_obj {r : Option Nat} {i : Int32} {x : Int64} {S : gS} (h : oLdL r i S = some x) : ∃ (q : Nat) (b : Bool) (n : Nat) (f : Nat → Int64), r = some q ∧ S.1 q = some (b, .inr (2, n, .inr (.inl f))) ∧ ¬ (i < 0 ∨ n ≤ i.toNatClampNeg) ∧ x = f i.toNatClampNeg := by
  unfold oLdL at h
  split at h
  · rename_i n f hg
    obtain ⟨q, b, h1, h2⟩ := oArr_obj hg
    split at h
    · cases h
    · rename_i hi
      exact ⟨q, b, n, f, h1, h2, hi, (Option.some.inj h).symm⟩
  · cases h
theorem oLdR_obj {kd : Nat} {r : Option Nat} {i : Int32} {x : Option Nat} {S : gS} (h : oLdR kd r i S = some x) : ∃ (q : Nat) (b : Bool) (n : Nat) (f : Nat → Option Nat), r = some q ∧ S.1 q = some (b, .inr (kd, n, .inr (.inr (.inr (.inr f))))) ∧ ¬ (i < 0 ∨ n ≤ i.toNatClampNeg) ∧ x = f i.toNatClampNeg := by
  unfold oLdR at h
  split at h
  · rename_i n f hg
    obtain ⟨q, b, h1, h2⟩ := oArr_obj hg
    split at h
    · cases h
    · rename_i hi
      exact ⟨q, b, n, f, h1, h2, hi, (Option.some.inj h).symm⟩
  · cases h
theorem g_iald (C : gCx p l R s m args meth c D K own cc nL ret hh nm u0) {ρ : Type} {r : Option Nat} {i : Int32} {f : Int32 → Option ρ} {o : ρ} (d : decode cc pc = .ok (.iaload, 1)) (hF : (oLdI 0 r i S).bind f = some o)
    (kk : ∀ x, f x = some o → gW p l e R s m args below meth c D K nL u0 Q S (pc + 1) lv (.int x :: st)) : gW p l e R s m args below meth c D K nL u0 Q S pc lv (.int i :: va_rf r :: st) := by
  intro H locs ls hH hS hu hl
  obtain ⟨x, h1, h2⟩ := oB hF
  obtain ⟨q, b, n, g, rfl, hM, hi, rfl⟩ := oLdI_obj h1
  have hlt : i.toNatClampNeg < n := Nat.not_le.mp fun q => hi (Or.inr q)
  obtain ⟨cell, k1, k2, k3, k4, k5⟩ := gLd C (f := fun j => .int (g j)) rfl (hH.2.2.2.2 q _ hM).1
  exact W.iald (v := .int (g i.toNatClampNeg)) C.1 C.2.1 k1 k2 k3 (fun z => hi (z.imp id fun z => Nat.le_trans k4.1 z)) (k5 _ hlt) rfl rfl d (kk _ h2 H locs ls hH hS hu hl)
theorem g_bald (C : gCx p l R s m args meth c D K own cc nL ret hh nm u0) {ρ : Type} {r : Option Nat} {i : Int32} {f : Int32 → Option ρ} {o : ρ} (d : decode cc pc = .ok (.baload, 1)) (hF : (oLdI 1 r i S).bind f = some o)
    (kk : ∀ x, f x = some o → gW p l e R s m args below meth c D K nL u0 Q S (pc + 1) lv (.int x :: st)) : gW p l e R s m args below meth c D K nL u0 Q S pc lv (.int i :: va_rf r :: st) := by
  intro H locs ls hH hS hu hl
  obtain ⟨x, h1, h2⟩ := oB hF
  obtain ⟨q, b, n, g, rfl, hM, hi, rfl⟩ := oLdI_obj h1
  have hlt : i.toNatClampNeg < n := Nat.not_le.mp fun q => hi (Or.inr q)
  obtain ⟨cell, k1, k2, k3, k4, k5⟩ := gLd C (f := fun j => .int (g j)) rfl (hH.2.2.2.2 q _ hM).1
  exact W.bald (v := .int (g i.toNatClampNeg)) C.1 C.2.1 k1 k2 k3 (fun z => hi (z.imp id fun z => Nat.le_trans k4.1 z)) (k5 _ hlt) rfl rfl d (kk _ h2 H locs ls hH hS hu hl)
theorem g_lald (C : gCx p l R s m args meth c D K own cc nL ret hh nm u0) {ρ : Type} {r : Option Nat} {i : Int32} {f : Int64 → Option ρ} {o : ρ} (d : decode cc pc = .ok (.laload, 1)) (hF : (oLdL r i S).bind f = some o)
    (kk : ∀ x, f x = some o → gW p l e R s m args below meth c D K nL u0 Q S (pc + 1) lv (.long x :: st)) : gW p l e R s m args below meth c D K nL u0 Q S pc lv (.int i :: va_rf r :: st) := by
  intro H locs ls hH hS hu hl
  obtain ⟨x, h1, h2⟩ := oB hF
  obtain ⟨q, b, n, g, rfl, hM, hi, rfl⟩ := oLdL_obj h1
  have hlt : i.toNatClampNeg < n := Nat.not_le.mp fun q => hi (Or.inr q)
  obtain ⟨cell, k1, k2, k3, k4, k5⟩ := gLd C (f := fun j => .long (g j)) rfl (hH.2.2.2.2 q _ hM).1
  exact W.lald (v := .long (g i.toNatClampNeg)) C.1 C.2.1 k1 k2 k3 (fun z => hi (z.imp id fun z => Nat.le_trans k4.1 z)) (k5 _ hlt) rfl rfl d (kk _ h2 H locs ls hH hS hu hl)
theorem g_aald (C : gCx p l R s m args meth c D K own cc nL ret hh nm u0) {ρ : Type} {kd : Nat} (hkd : (gTy kd).isReference = true) {r : Option Nat} {i : Int32} {f : Option Nat → Option ρ} {o : ρ} (d : decode cc pc = .ok (.aaload, 1)) (hF : (oLdR kd r i S).bind f = some o)
    (kk : ∀ x, f x = some o → gW p l e R s m args below meth c D K nL u0 Q S (pc + 1) lv (va_rf x :: st)) : gW p l e R s m args below meth c D K nL u0 Q S pc lv (.int i :: va_rf r :: st) := by
  intro H locs ls hH hS hu hl
  obtain ⟨x, h1, h2⟩ := oB hF
  obtain ⟨q, b, n, g, rfl, hM, hi, rfl⟩ := oLdR_obj h1
  have hlt : i.toNatClampNeg < n := Nat.not_le.mp fun q => hi (Or.inr q)
  obtain ⟨cell, k1, k2, k3, k4, k5⟩ := gLd C (f := fun j => va_rf (g j)) rfl (hH.2.2.2.2 q _ hM).1
  exact W.aald (v := va_rf (g i.toNatClampNeg)) (ty := gTy kd) C.1 C.2.1 k1 k2 hkd k3 (fun z => hi (z.imp id fun z => Nat.le_trans k4.1 z)) (k5 _ hlt) rfl rfl d (kk _ h2 H locs ls hH hS hu hl)
theorem oLen_obj {r : Option Nat} {S : gS} {x : Int32} (h : oLen r S = some x) : ∃ (q : Nat) (b : Bool) (kd : Nat) (a : vp_A), r = some q ∧ S.1 q = some (b, .inr (kd, a)) ∧ x = Int32.ofNat a.1 := by
  unfold oLen at h
  split at h
  · rename_i b k a hg
    obtain ⟨q, h1, h2⟩ := gGet_obj hg
    exact ⟨q, b, k, a, h1, h2, (Option.some.inj h).symm⟩
  · cases h
theorem g_alen (C : gCx p l R s m args meth c D K own cc nL ret hh nm u0) {ρ : Type} {r : Option Nat} {f : Int32 → Option ρ} {o : ρ} (d : decode cc pc = .ok (.arraylength, 1)) (hF : (oLen r S).bind f = some o)
    (kk : ∀ x, f x = some o → gW p l e R s m args below meth c D K nL u0 Q S (pc + 1) lv (.int x :: st)) : gW p l e R s m args below meth c D K nL u0 Q S pc lv (va_rf r :: st) := by
  intro H locs ls hH hS hu hl
  obtain ⟨x, h1, h2⟩ := oB hF
  obtain ⟨q, b, kd, a, rfl, hM, rfl⟩ := oLen_obj h1
  obtain ⟨g, hg⟩ := gCell_arr (D.2 kd) a
  obtain ⟨cell, k1, k2, k3, k4, k5⟩ := gLd C hg (hH.2.2.2.2 q _ hM).1
  exact W.alen C.1 C.2.1 k1 k2 k4.2 rfl rfl d (kk _ h2 H locs ls hH hS hu hl)
theorem oStI_obj {kd : Nat} {r : Option Nat} {i x : Int32} {S S1 : gS} (h : oStI kd r i x S = some S1) : ∃ (q n : Nat) (f : Nat → Int32), r = some q ∧ S.1 q = some (true, .inr (kd, n, .inl f)) ∧ ¬ (i < 0 ∨ n ≤ i.toNatClampNeg) ∧ S1 = (va_up S.1 q (some (true, .inr (kd, n, .inl (upd f i.toNatClampNeg (gNar kd x))))), S.2) := by
  unfold oStI at h
  split at h
  · cases h
  · split at h
    · rename_i q x9 k n f hM
      split at h
      · rename_i hk
        subst hk
        split at h
        · cases h
        · rename_i hi
          exact ⟨q, n, f, rfl, hM, hi, (Option.some.inj h).symm⟩
      · cases h
    · cases h
theorem g_stored {α : Type} (mk : α → Value) (cA : ClassId) (n : Nat) (f : Nat → α) (k : Nat) (x : α) {w : vp_A} {w2 : vp_A} (h1 : vp_cell cA w = arrV cA n (fun j => mk (f j))) (h2 : vp_cell cA w2 = arrV cA n (fun j => mk (va_up f k x j))) : (vp_cell cA w).setSlot k (mk x) = vp_cell cA w2 := by
  rw [h1, h2, arrV_store]
  congr 1
  funext q
  by_cases hq : q = k
  · subst hq; simp [updV, va_up]
  · simp [updV, va_up, hq]
theorem gFit_upd {g : Nat → Int32} {k : Nat} {x : Int32} (h : ∀ j, fits .byte (.int (g j)) = true) (j : Nat) : fits .byte (.int (upd g k (gNar 1 x) j)) = true := by
  unfold upd
  by_cases hj : j = k
  · rw [if_pos hj]; exact pk_fb x
  · rw [if_neg hj]; exact h j
theorem g_iast (C : gCx p l R s m args meth c D K own cc nL ret hh nm u0) {ρ : Type} {r : Option Nat} {i x : Int32} {f : gS → Option ρ} {o : ρ} (d : decode cc pc = .ok (.iastore, 1)) (hF : (oStI 0 r i x S).bind f = some o)
    (kk : ∀ S1, f S1 = some o → gW p l e R s m args below meth c D K nL u0 Q S1 (pc + 1) lv st) : gW p l e R s m args below meth c D K nL u0 Q S pc lv (.int x :: .int i :: va_rf r :: st) := by
  intro H locs ls hH hS hu hl
  obtain ⟨S1, h1, h2⟩ := oB hF
  obtain ⟨q, n, g, rfl, hM, hi, hS1⟩ := oStI_obj h1
  obtain ⟨hat, hsz⟩ := hH.2.2.2.2 q _ hM
  have hat := hat.arr
  refine W.iast C.1 C.2.1 hat.2.1 ((gKd C hat.1).1 n (fun j => .int (g j))) (fun q => by cases q) (by show ¬ (i < 0 ∨ (arrV _ _ _).slots.size ≤ _); rw [arrV_size]; exact hi) rfl rfl d fun H1 e1 z oq => ?_
  have he : gAt D q (true, .inr (0, n, .inl (upd g i.toNatClampNeg x))) H1 := gAt.of_arr ⟨hat.1, e1.trans (congrArg some (g_stored (fun z => .int z) (D.2 0) n g i.toNatClampNeg x rfl rfl)), fun h => by cases h⟩
  have hH1 : gH D K S1 H1 := by rw [hS1]; exact hH.put hM rfl z oq he
  have hk := kk S1 h2 H1 _ ls hH1 (hS.put (k := i.toNatClampNeg) z oq (hsz rfl)) (by rw [hS1]; exact hu) hl
  rw [hS1] at hk
  exact hk
theorem g_bast (C : gCx p l R s m args meth c D K own cc nL ret hh nm u0) {ρ : Type} {r : Option Nat} {i x : Int32} {f : gS → Option ρ} {o : ρ} (d : decode cc pc = .ok (.bastore, 1)) (hF : (oStI 1 r i x S).bind f = some o)
    (kk : ∀ S1, f S1 = some o → gW p l e R s m args below meth c D K nL u0 Q S1 (pc + 1) lv st) : gW p l e R s m args below meth c D K nL u0 Q S pc lv (.int x :: .int i :: va_rf r :: st) := by
  intro H locs ls hH hS hu hl
  obtain ⟨S1, h1, h2⟩ := oB hF
  obtain ⟨q, n, g, rfl, hM, hi, hS1⟩ := oStI_obj h1
  obtain ⟨hat, hsz⟩ := hH.2.2.2.2 q _ hM
  have hat := hat.arr
  refine W.bast C.1 C.2.1 hat.2.1 ((gKd C hat.1).1 n (fun j => .int (g j))) (fun q => by cases q) (by show ¬ (i < 0 ∨ (arrV _ _ _).slots.size ≤ _); rw [arrV_size]; exact hi) rfl rfl d fun H1 e1 z oq => ?_
  have he : gAt D q (true, .inr (1, n, .inl (upd g i.toNatClampNeg (gNar 1 x)))) H1 := gAt.of_arr ⟨hat.1, e1.trans (congrArg some (g_stored (fun z => .int z) (D.2 1) n g i.toNatClampNeg (gNar 1 x) rfl rfl)), fun _ f9 hf j => by cases hf; exact gFit_upd (hat.2.2 rfl g rfl) j⟩
  have hH1 : gH D K S1 H1 := by rw [hS1]; exact hH.put hM rfl z oq he
  have hk := kk S1 h2 H1 _ ls hH1 (hS.put (k := i.toNatClampNeg) z oq (hsz rfl)) (by rw [hS1]; exact hu) hl
  rw [hS1] at hk
  exact hk
theorem oStL_obj {r : Option Nat} {i : Int32} {x : Int64} {S S1 : gS} (h : oStL r i x S = some S1) : ∃ (q n : Nat) (f : Nat → Int64), r = some q ∧ S.1 q = some (true, .inr (2, n, .inr (.inl f))) ∧ ¬ (i < 0 ∨ n ≤ i.toNatClampNeg) ∧ S1 = (va_up S.1 q (some (true, .inr (2, n, .inr (.inl (vp_updL f i.toNatClampNeg x))))), S.2) := by
  unfold oStL at h
  split at h
  · cases h
  · split at h
    · rename_i q x9 n f hM
      split at h
      · cases h
      · rename_i hi
        exact ⟨q, n, f, rfl, hM, hi, (Option.some.inj h).symm⟩
    · cases h
theorem g_last (C : gCx p l R s m args meth c D K own cc nL ret hh nm u0) {ρ : Type} {r : Option Nat} {i : Int32} {x : Int64} {f : gS → Option ρ} {o : ρ} (d : decode cc pc = .ok (.lastore, 1)) (hF : (oStL r i x S).bind f = some o)
    (kk : ∀ S1, f S1 = some o → gW p l e R s m args below meth c D K nL u0 Q S1 (pc + 1) lv st) : gW p l e R s m args below meth c D K nL u0 Q S pc lv (.long x :: .int i :: va_rf r :: st) := by
  intro H locs ls hH hS hu hl
  obtain ⟨S1, h1, h2⟩ := oB hF
  obtain ⟨q, n, g, rfl, hM, hi, hS1⟩ := oStL_obj h1
  obtain ⟨hat, hsz⟩ := hH.2.2.2.2 q _ hM
  have hat := hat.arr
  refine W.last C.1 C.2.1 hat.2.1 ((gKd C hat.1).1 n (fun j => .long (g j))) (fun q => by cases q) (by show ¬ (i < 0 ∨ (arrV _ _ _).slots.size ≤ _); rw [arrV_size]; exact hi) rfl rfl d fun H1 e1 z oq => ?_
  have he : gAt D q (true, .inr (2, n, .inr (.inl (vp_updL g i.toNatClampNeg x)))) H1 := gAt.of_arr ⟨hat.1, e1.trans (congrArg some (g_stored (fun z => .long z) (D.2 2) n g i.toNatClampNeg x rfl rfl)), fun h => by cases h⟩
  have hH1 : gH D K S1 H1 := by rw [hS1]; exact hH.put hM rfl z oq he
  have hk := kk S1 h2 H1 _ ls hH1 (hS.put (k := i.toNatClampNeg) z oq (hsz rfl)) (by rw [hS1]; exact hu) hl
  rw [hS1] at hk
  exact hk
theorem oIs_obj {cs : List Nat} {r : Option Nat} {S : gS} (h : oIs cs r S = true) : ∃ (a : Nat) (b : Bool) (ci : Nat) (fs : List Value), r = some a ∧ S.1 a = some (b, .inl (ci, fs)) ∧ cs.contains ci = true := by
  unfold oIs at h
  split at h
  · rename_i b ci fs hg
    obtain ⟨a, h1, h2⟩ := gGet_obj hg
    exact ⟨a, b, ci, fs, h1, h2, h⟩
  · cases h
/-- what a call by the receiver, a cast, asks: the cell and its class -/
theorem g_recv (C : gCx p l R s m args meth c D K own cc nL ret hh nm u0) {H : Heap} (hH : gH D K S H) {a ci : Nat} {b : Bool} {fs : List Value} (hM : S.1 a = some (b, .inl (ci, fs))) : ∃ r1 : vw_C, gCl[ci]? = some r1 ∧ ∃ cell : Cell, H[a]? = some cell ∧ cell.vm.isStatics = false ∧ cell.cls = D.1.1 ci ∧ ClassAt s r1.1 (D.1.1 ci) ∧ (b = true → cell.vm = .none) := by
  obtain ⟨r1, hr1, cell, q1, q2, q3, q4, q5, q6⟩ := (hH.2.2.2.2 a _ hM).1
  exact ⟨r1, hr1, cell, q1, q3, q2, (C.2.2.2.2.2.2.2.2.1.1.1 ci r1 hr1).2, q5⟩
theorem oStR_obj {kd : Nat} {cs : List Nat} {r : Option Nat} {i : Int32} {v : Option Nat} {S S1 : gS} (h : oStR kd cs r i v S = some S1) : ∃ (q n : Nat) (f : Nat → Option Nat), r = some q ∧ S.1 q = some (true, .inr (kd, n, .inr (.inr (.inr (.inr f))))) ∧ oIs cs v S = true ∧ ¬ (i < 0 ∨ n ≤ i.toNatClampNeg) ∧ S1 = (va_up S.1 q (some (true, .inr (kd, n, .inr (.inr (.inr (.inr (va_up f i.toNatClampNeg v))))))), S.2) := by
  unfold oStR at h
  split at h
  · cases h
  · split at h
    · rename_i q x9 k n f hM
      split at h
      · rename_i hk
        obtain ⟨hk, hv⟩ := hk
        subst hk
        split at h
        · cases h
        · rename_i hi
          exact ⟨q, n, f, rfl, hM, hv, hi, (Option.some.inj h).symm⟩
      · cases h
    · cases h
/-- aastore into an array of a class E: the stored object's class is E or castable to it -/
theorem g_aast (C : gCx p l R s m args meth c D K own cc nL ret hh nm u0) {ρ : Type} {kd : Nat} {E : String} (hE : gTy kd = .object E) {cs : List Nat} (hcs : ∀ ci : Nat, cs.contains ci = true → ∃ r : vw_C, gCl[ci]? = some r ∧ (r.1 = E ∨ Cond.castable r.1 E ∈ lw_tbl)) {r v : Option Nat} {i : Int32} {f : gS → Option ρ} {o : ρ} (d : decode cc pc = .ok (.aastore, 1)) (hF : (oStR kd cs r i v S).bind f = some o)
    (kk : ∀ S1, f S1 = some o → gW p l e R s m args below meth c D K nL u0 Q S1 (pc + 1) lv st) : gW p l e R s m args below meth c D K nL u0 Q S pc lv (va_rf v :: .int i :: va_rf r :: st) := by
  intro H locs ls hH hS hu hl
  obtain ⟨S1, h1, h2⟩ := oB hF
  obtain ⟨q, n, g, rfl, hM, hv, hi, hS1⟩ := oStR_obj h1
  obtain ⟨av, bv, ci, fs, rfl, hMv, hci⟩ := oIs_obj hv
  obtain ⟨hat, hsz⟩ := hH.2.2.2.2 q _ hM
  have hat := hat.arr
  obtain ⟨r1, hr1, cellV, g1, g3, g2, hcl, -⟩ := g_recv C hH hMv
  obtain ⟨r2, hr2, hca⟩ := hcs ci hci
  cases hr1.symm.trans hr2
  obtain ⟨hk1, hk2⟩ := gKd C hat.1
  rw [hE] at hk1 hk2
  obtain ⟨kA, comp, k1, k2, k3, -⟩ := hk2
  have hasg : s.vm.assignable (D.1.1 ci) comp = true := by
    rcases hca with he | he
    · rw [he] at hcl
      cases hcl.1.symm.trans k3
      exact va_assign hcl
    · obtain ⟨c0, t0, f1, f2, f3⟩ := Cond.castable_spec (va_Nw.use (A := args) rfl (C.2.2.2.2.2.2.2.2.1.2.1 _ he rfl))
      cases hcl.1.symm.trans f1
      cases k3.symm.trans f2
      exact f3
  obtain ⟨kCo, hkCo, -⟩ := Vm.findClass_spec k3
  obtain ⟨kC, hkC, -⟩ := hcl.2
  have hlt : i.toNatClampNeg < n := Nat.not_le.mp fun q => hi (Or.inr q)
  refine W.aast C.1 C.2.1 hat.2.1 (fun q h => by cases h) (fun h => by cases h) k1 k2 rfl hkCo ⟨fun q => hi (Or.inl q), by show _ < (arrV _ _ _).slots.size; rw [arrV_size]; exact hlt⟩ g1 (fun q h => by rw [h] at g3; cases g3) (by rw [g2]; exact hkC) (by rw [g2]; exact hasg) rfl rfl d fun H1 e1 z oq => ?_
  have he : gAt D q (true, .inr (kd, n, .inr (.inr (.inr (.inr (va_up g i.toNatClampNeg (some av))))))) H1 := gAt.of_arr ⟨hat.1, e1.trans (congrArg some (g_stored va_rf (D.2 kd) n g i.toNatClampNeg (some av) rfl rfl)), fun _ f9 hf => by cases hf⟩
  have hH1 : gH D K S1 H1 := by rw [hS1]; exact hH.put hM rfl z oq he
  have hk := kk S1 h2 H1 _ ls hH1 (hS.put (k := i.toNatClampNeg) z oq (hsz rfl)) (by rw [hS1]; exact hu) hl
  rw [hS1] at hk
  exact hk
end GAR
