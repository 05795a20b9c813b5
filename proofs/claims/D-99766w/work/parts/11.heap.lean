section GHP
/-- a field of these classes, by its place in their tables -/
def gFd (cs : List Nat) (k : Nat) (owner name desc : String) (fin : Bool) : Prop := ∀ ci : Nat, cs.contains ci = true → ∃ r : vw_C, gCl[ci]? = some r ∧ k < r.2.2 ∧ r.2.1 k = (owner, name, desc, fin)
def gFdb (cs : List Nat) (k : Nat) (owner name desc : String) (fin : Bool) : Bool := cs.all (fun ci => match gCl[ci]? with
  | some r => decide (k < r.2.2) && decide (r.2.1 k = (owner, name, desc, fin))
  | none => false)
theorem gFd_of {cs : List Nat} {k : Nat} {owner name desc : String} {fin : Bool} (h : gFdb cs k owner name desc fin = true) : gFd cs k owner name desc fin := by
  intro ci hc
  have h1 := List.all_eq_true.mp h ci (by simpa using hc)
  cases hg : gCl[ci]? with
  | none => rw [hg] at h1; cases h1
  | some r =>
    rw [hg] at h1
    simp only [Bool.and_eq_true, decide_eq_true_eq] at h1
    exact ⟨r, rfl, h1.1, h1.2⟩
def gLk (own : String) (idx : Nat) (ref name desc : String) : Prop := Cond.fieldLink own idx ref name desc ∈ lw_all ∨ ∃ host, Cond.fieldLinkNest own idx ref name desc host ∈ lw_tbl
def gSm (ref owner name desc : String) : Prop := ref = owner ∨ Cond.sameField ref owner name desc ∈ lw_all
variable {p : Program} {l : Launch} {e : Env} {R : Room} {s : State} {m : MethodId} {args : Array Value} {below : List Frame} {meth : Method} {c : Code} {D : gD} {K : gK} {nL u0 : Nat} {Q : State → Prop} {S : gS} {pc : Nat} {lv : List (Nat × Value)} {st : List Value} {own : String} {cc : ByteArray} {ret : Option FieldType} {hh : List (Nat × Nat × Nat × Nat)} {nm : String}
theorem gSm.use {ref owner name desc : String} (C : gCx p l R s m args meth c D K own cc nL ret hh nm u0) (h : gSm ref owner name desc) : ∀ x, s.fieldFound? owner name desc = some x → s.fieldFound? ref name desc = some x := by
  rcases h with rfl | h
  · exact fun _ h => h
  · exact fun x hx => u_same (C.2.2.2.2.2.2.2.1 _ h) x hx
theorem gGet_obj {S : gS} {r : Option Nat} {x : gE} (h : gGet S r = some x) : ∃ a, r = some a ∧ S.1 a = some x := by
  cases r with
  | none => cases h
  | some a => exact ⟨a, rfl, h⟩
theorem oFld_obj {cs : List Nat} {k : Nat} {r : Option Nat} {S : gS} {v : Value} (h : oFld cs k r S = some v) : ∃ (a : Nat) (b : Bool) (ci : Nat) (fs : List Value), r = some a ∧ S.1 a = some (b, .inl (ci, fs)) ∧ cs.contains ci = true ∧ fs[k]? = some v := by
  unfold oFld at h
  split at h
  · rename_i b ci fs hg
    obtain ⟨a, h1, h2⟩ := gGet_obj hg
    split at h
    · rename_i hc
      exact ⟨a, b, ci, fs, h1, h2, hc, h⟩
    · cases h
  · cases h
theorem g_fld (C : gCx p l R s m args meth c D K own cc nL ret hh nm u0) {cs : List Nat} {k : Nat} {owner name desc ref : String} {fin : Bool} {idx : Nat} {r : Option Nat} {v : Value} (d : decode cc pc = .ok (.getfield idx, 3)) (hfd : gFd cs k owner name desc fin) (hlk : gLk own idx ref name desc) (hsm : gSm ref owner name desc) (hv : oFld cs k r S = some v)
    (kk : gW p l e R s m args below meth c D K nL u0 Q S (pc + 3) lv (v :: st)) : gW p l e R s m args below meth c D K nL u0 Q S pc lv (va_rf r :: st) := by
  intro H locs ls hH hS hu hl
  obtain ⟨a, b, ci, fs, rfl, hM, hc, hk⟩ := oFld_obj hv
  obtain ⟨r1, hr1, cell, q1, q2, -, q3, -, q4⟩ := (hH.2.2.2.2 a _ hM).1
  obtain ⟨r2, hr2, hkn, hT⟩ := hfd ci hc
  cases hr1.symm.trans hr2
  obtain ⟨hin, -, -⟩ := gCl_ok ci r1 hr1
  have hKn := C.2.2.2.2.2.2.2.2.1.1.1 ci r1 hr1
  obtain ⟨hSl, hfc, kC, hkC, hkind⟩ := hKn
  obtain ⟨cf, kf, fi, f, hi, hsl⟩ := hSl k hkn
  have hst := (u_facts hfc hkC (u_lays C.2.2.2.2.2.2.2.1 hin hkn) hi).1
  rw [hT] at hi
  have hslot : cell.slots[f.slot]? = some v := by
    rw [hsl, q4 k hkn]
    simp [vp_V, hk]
  have kk := kk H locs ls hH hS hu hl
  rcases hlk with h | ⟨host, h⟩
  · exact W.getf C.1 C.2.1 C.2.2.2.1 (C.2.2.2.2.2.2.2.1 _ h) (hsm.use C _ hi) hst q1 q3 hslot rfl rfl d kk
  · exact va_Wgetf C.1 C.2.1 C.2.2.2.1 (va_Nw.use (A := args) rfl (C.2.2.2.2.2.2.2.2.1.2.1 _ h rfl)) (hsm.use C _ hi) hst q1 q3 hslot rfl rfl d kk
theorem vI_some {v : Value} {x : Int32} (h : vI v = some x) : v = .int x := by
  cases v <;> first | (cases h; rfl) | cases h
theorem vR_some {v : Value} {x : Option Nat} (h : vR v = some x) : v = va_rf x := by
  cases v <;> first | (cases h; rfl) | cases h
theorem oB {α β : Type} {o : Option α} {f : α → Option β} {z : β} (h : o.bind f = some z) : ∃ x, o = some x ∧ f x = some z := by
  cases o with
  | none => cases h
  | some x => exact ⟨x, rfl, h⟩
theorem g_getI (C : gCx p l R s m args meth c D K own cc nL ret hh nm u0) {ρ : Type} {cs : List Nat} {k : Nat} {owner name desc ref : String} {fin : Bool} {idx : Nat} {r : Option Nat} {f : Int32 → Option ρ} {o : ρ} (d : decode cc pc = .ok (.getfield idx, 3)) (hfd : gFd cs k owner name desc fin) (hlk : gLk own idx ref name desc) (hsm : gSm ref owner name desc) (hF : (oGetI cs k r S).bind f = some o)
    (kk : ∀ x, f x = some o → gW p l e R s m args below meth c D K nL u0 Q S (pc + 3) lv (.int x :: st)) : gW p l e R s m args below meth c D K nL u0 Q S pc lv (va_rf r :: st) := by
  obtain ⟨x, h1, h2⟩ := oB hF
  obtain ⟨v, h3, h4⟩ := oB h1
  cases vI_some h4
  exact g_fld C d hfd hlk hsm h3 (kk x h2)
theorem g_getR (C : gCx p l R s m args meth c D K own cc nL ret hh nm u0) {ρ : Type} {cs : List Nat} {k : Nat} {owner name desc ref : String} {fin : Bool} {idx : Nat} {r : Option Nat} {f : Option Nat → Option ρ} {o : ρ} (d : decode cc pc = .ok (.getfield idx, 3)) (hfd : gFd cs k owner name desc fin) (hlk : gLk own idx ref name desc) (hsm : gSm ref owner name desc) (hF : (oGetR cs k r S).bind f = some o)
    (kk : ∀ x, f x = some o → gW p l e R s m args below meth c D K nL u0 Q S (pc + 3) lv (va_rf x :: st)) : gW p l e R s m args below meth c D K nL u0 Q S pc lv (va_rf r :: st) := by
  obtain ⟨x, h1, h2⟩ := oB hF
  obtain ⟨v, h3, h4⟩ := oB h1
  cases vR_some h4
  exact g_fld C d hfd hlk hsm h3 (kk x h2)
/-- the heap behind a store into one cell -/
theorem gH.put {a : Nat} {e0 e1 : gE} {H H1 : Heap} (h : gH D K S H) (hM : S.1 a = some e0) (hb : e0.1 = e1.1) (hz : H1.size = H.size) (oq : ∀ q, q ≠ a → H1[q]? = H[q]?) (he : gAt D a e1 H1) : gH D K (va_up S.1 a (some e1), S.2) H1 := by
  refine ⟨h.1, hz.trans h.2.1, h.2.2.1, h.2.2.2.1, fun a2 e2 h2 => ?_⟩
  by_cases ha : a2 = a
  · subst ha
    have h3 : some e1 = some e2 := by
      have : va_up S.1 a2 (some e1) a2 = some e1 := by simp [va_up]
      exact this.symm.trans h2
    cases h3
    exact ⟨he, fun hb2 => (h.2.2.2.2 a2 _ hM).2 (by rw [hb]; exact hb2)⟩
  · have h3 : S.1 a2 = some e2 := by
      have : va_up S.1 a (some e1) a2 = S.1 a2 := by simp [va_up, ha]
      exact this.symm.trans h2
    obtain ⟨h4, h5⟩ := h.2.2.2.2 a2 e2 h3
    exact ⟨h4.kept (oq a2 ha), h5⟩
theorem oPut_obj {cs : List Nat} {k : Nat} {r : Option Nat} {v : Value} {S S1 : gS} (h : oPut cs k r v S = some S1) : ∃ (a ci : Nat) (fs : List Value), r = some a ∧ S.1 a = some (true, .inl (ci, fs)) ∧ cs.contains ci = true ∧ k < fs.length ∧ S1 = (va_up S.1 a (some (true, .inl (ci, fs.set k v))), S.2) := by
  unfold oPut at h
  split at h
  · cases h
  · split at h
    · rename_i a x ci fs hM
      split at h
      · rename_i hc
        exact ⟨a, ci, fs, rfl, hM, hc.1, hc.2, (Option.some.inj h).symm⟩
      · cases h
    · cases h
theorem g_put (C : gCx p l R s m args meth c D K own cc nL ret hh nm u0) {ρ : Type} {cs : List Nat} {k : Nat} {owner name desc ref : String} {idx : Nat} {r : Option Nat} {v : Value} {ty : FieldType} {f : gS → Option ρ} {o : ρ} (d : decode cc pc = .ok (.putfield idx, 3)) (hfd : gFd cs k owner name desc false) (hlk : gLk own idx ref name desc) (hsm : gSm ref owner name desc) (hd : parseFieldDescriptor desc = some ty) (hn : narrow ty v = v) (hfit : fits ty v = true) (hF : (oPut cs k r v S).bind f = some o)
    (kk : ∀ S1, f S1 = some o → gW p l e R s m args below meth c D K nL u0 Q S1 (pc + 3) lv st) : gW p l e R s m args below meth c D K nL u0 Q S pc lv (v :: va_rf r :: st) := by
  intro H locs ls hH hS hu hl
  obtain ⟨S1, h1, h2⟩ := oB hF
  obtain ⟨a, ci, fs, rfl, hM, hc, hkl, hS1⟩ := oPut_obj h1
  obtain ⟨hat, hsz⟩ := hH.2.2.2.2 a _ hM
  obtain ⟨r1, hr1, cell, q1, q2, q3, q4⟩ := hat.tob
  obtain ⟨r2, hr2, hkn, hT⟩ := hfd ci hc
  cases hr1.symm.trans hr2
  obtain ⟨hin, ⟨ty0, hty⟩, hnm⟩ := gCl_ok ci r1 hr1
  have hKn := C.2.2.2.2.2.2.2.2.1.1.1 ci r1 hr1
  have hap := va_apart (own := own) C.2.2.2.2.2.2.2.1 hin ty0 hty hnm C.2.2.2.2.2.2.2.2.1.1 hr1
  obtain ⟨hSl, hfc, kC, hkC, hkind⟩ := hKn
  obtain ⟨cf, kf, fi, fd, hi, hsl⟩ := hSl k hkn
  have hst := (u_facts hfc hkC (u_lays C.2.2.2.2.2.2.2.1 hin hkn) hi).1
  have hlay := C.2.2.2.2.2.2.2.1 _ (hin _ (u_in_lay hkn))
  unfold u_lay at hlay
  rw [hT] at hi hlay
  rw [if_neg (fun h => by cases h)] at hlay
  have h6 := u_store hfc hkC hkind hlay hi hd hn hfit
  have hg : ∀ (H1 : Heap), H1[a]? = some (cell.setSlot fd.slot v) → H1.size = H.size → (∀ q, q ≠ a → H1[q]? = H[q]?) → W p l e R s m args below meth c H1 (locs ++ [⟨a, fd.slot⟩]) (S.2.1 - s.heap.size) (S.2.2.1 - u0) Q (F0 m (pc + 3) ls st) := by
    intro H1 e1 e2 e3
    rw [hsl] at e1
    have hH1 : gH D K S1 H1 := by
      rw [hS1]
      exact hH.put hM rfl e2 e3 (gAt.of_tob ⟨r1, hr1, t_OB.to (V := updV (vp_V fs) k v) ⟨_, e1, q2, q3, t_set q4 hap hkn v⟩ (fun j _ => vp_updV_set hkl v j)⟩)
    have hk := kk S1 h2 H1 _ ls hH1 (hS.put (k := fd.slot) e2 e3 (hsz rfl)) (by rw [hS1]; exact hu) hl
    rw [hS1] at hk
    exact hk
  rcases hlk with h | ⟨host, h⟩
  · exact W.putK C.1 C.2.1 (f := fd) ⟨C.2.2.2.1, C.2.2.2.2.2.2.2.1 _ h, ⟨_, _, _, hsm.use C _ hi⟩, hst⟩ (by rw [q2]; exact h6) q1 q3 (by rw [hsl]; exact k2_hasslot (q4 k hkn)) rfl rfl d hg
  · exact va_WputK C.1 C.2.1 (f := fd) C.2.2.2.1 (va_Nw.use (A := args) rfl (C.2.2.2.2.2.2.2.2.1.2.1 _ h rfl)) (hsm.use C _ hi) hst (by rw [q2]; exact h6) q1 q3 (by rw [hsl]; exact k2_hasslot (q4 k hkn)) rfl rfl d hg
/-- a final field, in its class's constructor -/
theorem g_putF (C : gCx p l R s m args meth c D K own cc nL ret hh nm u0) {ρ : Type} {cs : List Nat} {k : Nat} {name desc : String} {idx : Nat} {r : Option Nat} {v : Value} {ty : FieldType} {f : gS → Option ρ} {o : ρ} (hnm9 : nm = "<init>") (d : decode cc pc = .ok (.putfield idx, 3)) (hfd : gFd cs k own name desc true) (hlk : Cond.fieldLink own idx own name desc ∈ lw_all) (hd : parseFieldDescriptor desc = some ty) (hn : narrow ty v = v) (hfit : fits ty v = true) (hF : (oPut cs k r v S).bind f = some o)
    (kk : ∀ S1, f S1 = some o → gW p l e R s m args below meth c D K nL u0 Q S1 (pc + 3) lv st) : gW p l e R s m args below meth c D K nL u0 Q S pc lv (v :: va_rf r :: st) := by
  intro H locs ls hH hS hu hl
  obtain ⟨S1, h1, h2⟩ := oB hF
  obtain ⟨a, ci, fs, rfl, hM, hc, hkl, hS1⟩ := oPut_obj h1
  obtain ⟨hat, hsz⟩ := hH.2.2.2.2 a _ hM
  obtain ⟨r1, hr1, cell, q1, q2, q3, q4⟩ := hat.tob
  obtain ⟨r2, hr2, hkn, hT⟩ := hfd ci hc
  cases hr1.symm.trans hr2
  obtain ⟨hin, ⟨ty0, hty⟩, hnm⟩ := gCl_ok ci r1 hr1
  have hKn := C.2.2.2.2.2.2.2.2.1.1.1 ci r1 hr1
  have hap := va_apart (own := own) C.2.2.2.2.2.2.2.1 hin ty0 hty hnm C.2.2.2.2.2.2.2.2.1.1 hr1
  obtain ⟨hSl, hfc, kC, hkC, hkind⟩ := hKn
  obtain ⟨cf, kf, fi, fd, hi, hsl⟩ := hSl k hkn
  have hst := (u_facts hfc hkC (u_lays C.2.2.2.2.2.2.2.1 hin hkn) hi).1
  have hlay := C.2.2.2.2.2.2.2.1 _ (hin _ (u_in_lay hkn))
  unfold u_lay at hlay
  rw [hT] at hi hlay
  rw [if_pos rfl] at hlay
  have hcf : m.cls = cf := by
    obtain ⟨_, _, c', _, _, _, -, -, hf', -, -, -, hown2, -⟩ := Cond.laysFinal_spec hlay
    have e1 : c' = cf := by have := hi.symm.trans hf'; simp at this; exact this.1.symm
    rw [← e1]; exact Option.some.inj (C.2.2.2.1.symm.trans hown2)
  have h6 := u_fits hfc hkC hkind (Or.inr hlay) hi hd hn hfit
  refine W.putFinK C.1 C.2.1 C.2.2.2.1 (C.2.2.2.2.2.2.2.1 _ hlk) hi hst hcf (C.2.2.2.2.2.2.2.2.2.2.2.2.trans hnm9) (by rw [q2]; exact h6) q1 q3 (by rw [hsl]; exact k2_hasslot (q4 k hkn)) rfl rfl d fun H1 e1 e2 e3 => ?_
  rw [hsl] at e1
  have hH1 : gH D K S1 H1 := by
    rw [hS1]
    exact hH.put hM rfl e2 e3 (gAt.of_tob ⟨r1, hr1, t_OB.to (V := updV (vp_V fs) k v) ⟨_, e1, q2, q3, t_set q4 hap hkn v⟩ (fun j _ => vp_updV_set hkl v j)⟩)
  have hk := kk S1 h2 H1 _ ls hH1 (hS.put (k := fd.slot) e2 e3 (hsz rfl)) (by rw [hS1]; exact hu) hl
  rw [hS1] at hk
  exact hk
end GHP
