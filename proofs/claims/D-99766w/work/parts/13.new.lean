section GNW
variable {p : Program} {l : Launch} {e : Env} {R : Room} {s : State} {m : MethodId} {args : Array Value} {below : List Frame} {meth : Method} {c : Code} {D : gD} {K : gK} {nL u0 : Nat} {Q : State → Prop} {S : gS} {pc : Nat} {lv : List (Nat × Value)} {st : List Value} {own : String} {cc : ByteArray} {ret : Option FieldType} {hh : List (Nat × Nat × Nat × Nat)} {nm : String}
/-- the room's arithmetic -/
theorem g_rm {a b c lim : Nat} (h1 : a ≤ b) (h2 : b + c ≤ lim) : b - a + c ≤ lim - a := by omega
theorem g_rm2 {a b c : Nat} (h1 : a ≤ b) : b - a + c = b + c - a := by omega
theorem gSz {H : Heap} {locs : List Loc} (hH : gH D K S H) (hS : va_S (gA K) s.heap H locs) : s.heap.size ≤ S.2.1 := by
  rw [← hH.2.1]; exact hS.1
theorem va_S.push {A : Nat → Prop} {H0 H H1 : Heap} {locs : List Loc} {n : Nat} (h : va_S A H0 H locs) (z : H1.size = H.size + n) (o1 : ∀ q, q < H.size → H1[q]? = H[q]?) : va_S A H0 H1 locs :=
  ⟨Nat.le_trans h.1 (by omega), fun x h1 h2 => (o1 x (Nat.lt_of_lt_of_le h1 h.1)).trans (h.2.1 x h1 h2), h.2.2⟩
theorem gH.push {e1 : gE} {N : Nat} {H H1 : Heap} (h : gH D K S H) (hK : K.1 ≤ H.size) (z : H1.size = H.size + 1) (o1 : ∀ q, q < H.size → H1[q]? = H[q]?) (h2 : S.2.1 + 1 ≤ gLim K) (h3 : S.2.2.1 + N ≤ gUB) (he : gAt D S.2.1 e1 H1) : gH D K (gPush e1 N S) H1 := by
  refine ⟨h.1, by rw [z, h.2.1]; rfl, h2, h3, fun a2 e2 h4 => ?_⟩
  by_cases ha : a2 = S.2.1
  · subst ha
    have h5 : some e1 = some e2 := by
      have : va_up S.1 S.2.1 (some e1) S.2.1 = some e1 := by simp [va_up]
      exact this.symm.trans h4
    cases h5
    exact ⟨he, fun _ => by rw [← h.2.1]; exact hK⟩
  · have h5 : S.1 a2 = some e2 := by
      have : va_up S.1 S.2.1 (some e1) a2 = S.1 a2 := by simp [va_up, ha]
      exact this.symm.trans h4
    obtain ⟨h6, h7⟩ := h.2.2.2.2 a2 e2 h5
    exact ⟨h6.kept (o1 a2 h6.lt), h7⟩
theorem oNew_obj {ci : Nat} {fs : List Value} {S S1 : gS} {q : Nat} (h : oNew ci fs S = some (q, S1)) : q = S.2.1 ∧ S1 = gPush (true, .inl (ci, fs)) fs.length S ∧ S.2.1 + 1 ≤ gLim S.2.2.2 ∧ S.2.2.1 + fs.length ≤ gUB := by
  unfold oNew at h
  split at h
  · rename_i hc
    cases h
    exact ⟨rfl, rfl, hc.1, hc.2⟩
  · cases h
theorem gB_some {α β : Type} {o : Option (α × gS)} {f : α → gS → Option β} {z : β} (h : gB o f = some z) : ∃ (a : α) (S1 : gS), o = some (a, S1) ∧ f a S1 = some z := by
  unfold gB at h
  split at h
  · cases h
  · rename_i a S1
    exact ⟨a, S1, rfl, h⟩
theorem g_new (C : gCx p l R s m args meth c D K own cc nL ret hh nm u0) {ρ : Type} {ci idx : Nat} {Cn : String} {T : u_T} {N : Nat} {ty : Nat → FieldType} {fs : List Value} {f : Nat → gS → Option ρ} {o : ρ} (d : decode cc pc = .ok (.new idx, 3)) (hci : gCl[ci]? = some (Cn, T, N)) (hcl : Cond.classLink own idx Cn ∈ lw_all) (hinst : Cond.instantiable Cn N ∈ lw_all) (hini : Cond.initialized Cn ∈ lw_all)
    (hty : ∀ k, k < N → parseFieldDescriptor (T k).2.2.1 = some (ty k)) (hfs : (List.range N).map (fun j => defaultValue (ty j)) = fs) (hF : gB (oNew ci fs S) f = some o)
    (kk : ∀ q S1, f q S1 = some o → gW p l e R s m args below meth c D K nL u0 Q S1 (pc + 3) lv (va_rf (some q) :: st)) : gW p l e R s m args below meth c D K nL u0 Q S pc lv st := by
  intro H locs ls hH hS hu hl
  obtain ⟨q, S1, h1, h2⟩ := gB_some hF
  obtain ⟨hq, hS1, hb1, hb2⟩ := oNew_obj h1
  rw [hH.1] at hb1
  have hKn := C.2.2.2.2.2.2.2.2.1.1.1 ci _ hci
  obtain ⟨hin, -, -⟩ := gCl_ok ci _ hci
  have hlen : fs.length = N := by rw [← hfs]; simp
  have hsz := gSz hH hS
  refine W.newcK C.1 C.2.1 C.2.2.2.1 (C.2.2.2.2.2.2.2.1 _ hcl) (C.2.2.2.2.2.2.2.1 _ hinst) (C.2.2.2.2.2.2.2.1 _ hini) rfl d (by rw [C.2.2.2.2.2.2.2.2.2.1]; exact g_rm hsz hb1) (by rw [C.2.2.2.2.2.2.2.2.2.2.1, ← hlen]; exact g_rm hu hb2) hKn.2.1 hH.2.1 fun H1 kC hkC e1 z1 o1 => ?_
  have hfs2 : ∀ j, j < N → defaultValue (ty j) = vp_V fs j := by
    intro j hj
    unfold vp_V
    rw [← hfs, List.getD_eq_getElem?_getD, List.getElem?_map, List.getElem?_range hj]
    rfl
  have he : gAt D S.2.1 (true, .inl (ci, fs)) H1 := gAt.of_tob ⟨_, hci, (u_born ty C.2.2.2.2.2.2.2.1 hin hKn hkC e1 hty).to hfs2⟩
  have o2 : ∀ q, q < H.size → H1[q]? = H[q]? := fun q h => o1 q (by rw [← hH.2.1]; exact h)
  have z2 : H1.size = H.size + 1 := by rw [z1, hH.2.1]
  have hX := C.2.2.2.2.2.2.2.2.1.2.2.1
  have hH1 : gH D K S1 H1 := by rw [hS1]; exact hH.push (Nat.le_trans hX hS.1) z2 o2 hb1 hb2 he
  have hk := kk q S1 h2 H1 _ ls hH1 (hS.push z2 o2) (by rw [hS1]; exact Nat.le_trans hu (Nat.le_add_right _ _)) hl
  rw [hS1, hq] at hk
  have hk2 : W p l e R s m args below meth c H1 locs (S.2.1 + 1 - s.heap.size) (S.2.2.1 + fs.length - u0) Q (F0 m (pc + 3) ls (.ref S.2.1 :: st)) := hk
  rw [← g_rm2 hsz, ← g_rm2 hu, hlen] at hk2
  exact hk2
theorem oNewA_obj {kd : Nat} {n : Int32} {S S1 : gS} {q : Nat} (h : oNewA kd n S = some (q, S1)) : ¬ n < 0 ∧ q = S.2.1 ∧ S1 = gPush (true, .inr (kd, n.toNatClampNeg, gZero kd)) n.toNatClampNeg S ∧ S.2.1 + 1 ≤ gLim S.2.2.2 ∧ S.2.2.1 + n.toNatClampNeg ≤ gUB := by
  unfold oNewA at h
  split at h
  · cases h
  · rename_i hn
    split at h
    · rename_i hc
      cases h
      exact ⟨hn, rfl, rfl, hc.1, hc.2⟩
    · cases h
/-- newarray: the machine's part, for each kind -/
theorem g_newa0 (C : gCx p l R s m args meth c D K own cc nL ret hh nm u0) {ρ : Type} {kd : Nat} {atype : ArrayType} (hkd : kd < 6) (hat : newarray.typeOf atype = gTy kd) (hco : componentBytes (gTy kd) ≤ 8) (hcell : ∀ (cA : ClassId) (n : Nat), vp_cell cA (n, gZero kd) = arrV cA n (fun _ => defaultValue (gTy kd))) (hnm : ∀ cA, va_RA s cA (gTy kd) → s.vm.findClass ("[" ++ (newarray.typeOf atype).toString) = some cA) {n : Int32} {f : Nat → gS → Option ρ} {o : ρ} (d : decode cc pc = .ok (.newarray atype, 2)) (harr : Cond.arrayClass (newarray.typeOf atype) ∈ lw_all) (hF : gB (oNewA kd n S) f = some o)
    (kk : ∀ q S1, f q S1 = some o → gW p l e R s m args below meth c D K nL u0 Q S1 (pc + 2) lv (va_rf (some q) :: st)) : gW p l e R s m args below meth c D K nL u0 Q S pc lv (.int n :: st) := by
  intro H locs ls hH hS hu hl
  obtain ⟨q, S1, h1, h2⟩ := gB_some hF
  obtain ⟨hn, hq, hS1, hb1, hb2⟩ := oNewA_obj h1
  rw [hH.1] at hb1
  have hsz := gSz hH hS
  have hbytes : n.toNatClampNeg * componentBytes (newarray.typeOf atype) ≤ 536870912 := by
    rw [hat]
    have h9 : n.toNatClampNeg ≤ 7293034 := Nat.le_trans (Nat.le_add_left _ _) hb2
    exact Nat.le_trans (Nat.mul_le_mul h9 hco) (by decide)
  refine W.newa C.1 C.2.1 (C.2.2.2.2.2.2.2.1 _ harr) rfl d rfl hn hbytes (by rw [C.2.2.2.2.2.2.2.2.2.1]; exact g_rm hsz hb1) (by rw [C.2.2.2.2.2.2.2.2.2.2.1]; exact g_rm hu hb2) fun cA kA comp f1 f2 f3 => ?_
  obtain ⟨hk1, hk2⟩ := gKd C hkd
  have hcA : cA = D.2 kd := Option.some.inj (f1.symm.trans (hnm _ hk2))
  subst hcA
  generalize hH1 : H.push ({ cls := D.2 kd, slots := Array.replicate n.toNatClampNeg (defaultValue (newarray.typeOf atype)), vm := .none } : Cell) = H1
  have z2 : H1.size = H.size + 1 := by rw [← hH1, Array.size_push]
  have e1 : H1[H.size]? = some (arrV (D.2 kd) n.toNatClampNeg (fun _ => defaultValue (newarray.typeOf atype))) := by rw [← hH1, Array.getElem?_push_size, ← arrV_new]
  have o2 : ∀ q, q < H.size → H1[q]? = H[q]? := fun q h => by rw [← hH1]; exact Array.getElem?_push_lt h ▸ (Array.getElem?_eq_getElem h).symm
  have he : gAt D S.2.1 (true, .inr (kd, n.toNatClampNeg, gZero kd)) H1 := by
    refine gAt.of_arr ⟨hkd, ?_, fun h9 f9 hf j => ?_⟩
    · show H1[S.2.1]? = some (vp_cell (D.2 kd) (n.toNatClampNeg, gZero kd))
      rw [← hH.2.1, e1, hat, hcell]
    · have h9 : kd = 1 := h9
      subst h9
      cases hf
      rfl
  have hX := C.2.2.2.2.2.2.2.2.1.2.2.1
  have hHn : gH D K S1 H1 := by rw [hS1]; exact hH.push (Nat.le_trans hX hS.1) z2 o2 hb1 hb2 he
  have hk := kk q S1 h2 H1 _ ls hHn (hS.push z2 o2) (by rw [hS1]; exact Nat.le_trans hu (Nat.le_add_right _ _)) hl
  rw [hS1, hq] at hk
  have hk2 : W p l e R s m args below meth c H1 locs (S.2.1 + 1 - s.heap.size) (S.2.2.1 + n.toNatClampNeg - u0) Q (F0 m (pc + 2) ls (.ref S.2.1 :: st)) := hk
  rw [← g_rm2 hsz, ← g_rm2 hu, ← hH.2.1] at hk2
  have e9 : S.2.1 = H.size := hH.2.1.symm
  rw [e9]
  exact hk2
theorem g_newaI (C : gCx p l R s m args meth c D K own cc nL ret hh nm u0) {ρ : Type} {n : Int32} {f : Nat → gS → Option ρ} {o : ρ} (d : decode cc pc = .ok (.newarray .int, 2)) (harr : Cond.arrayClass .int ∈ lw_all) (hF : gB (oNewA 0 n S) f = some o)
    (kk : ∀ q S1, f q S1 = some o → gW p l e R s m args below meth c D K nL u0 Q S1 (pc + 2) lv (va_rf (some q) :: st)) : gW p l e R s m args below meth c D K nL u0 Q S pc lv (.int n :: st) :=
  g_newa0 C (kd := 0) (atype := .int) (by decide) rfl (by decide) (fun _ _ => rfl) (fun _ h => h) d harr hF kk
theorem g_newaB (C : gCx p l R s m args meth c D K own cc nL ret hh nm u0) {ρ : Type} {n : Int32} {f : Nat → gS → Option ρ} {o : ρ} (d : decode cc pc = .ok (.newarray .byte, 2)) (harr : Cond.arrayClass .byte ∈ lw_all) (hF : gB (oNewA 1 n S) f = some o)
    (kk : ∀ q S1, f q S1 = some o → gW p l e R s m args below meth c D K nL u0 Q S1 (pc + 2) lv (va_rf (some q) :: st)) : gW p l e R s m args below meth c D K nL u0 Q S pc lv (.int n :: st) :=
  g_newa0 C (kd := 1) (atype := .byte) (by decide) rfl (by decide) (fun _ _ => rfl) (fun _ h => h) d harr hF kk
theorem g_newaL (C : gCx p l R s m args meth c D K own cc nL ret hh nm u0) {ρ : Type} {n : Int32} {f : Nat → gS → Option ρ} {o : ρ} (d : decode cc pc = .ok (.newarray .long, 2)) (harr : Cond.arrayClass .long ∈ lw_all) (hF : gB (oNewA 2 n S) f = some o)
    (kk : ∀ q S1, f q S1 = some o → gW p l e R s m args below meth c D K nL u0 Q S1 (pc + 2) lv (va_rf (some q) :: st)) : gW p l e R s m args below meth c D K nL u0 Q S pc lv (.int n :: st) :=
  g_newa0 C (kd := 2) (atype := .long) (by decide) rfl (by decide) (fun _ _ => rfl) (fun _ h => h) d harr hF kk
/-- anewarray of a class -/
theorem g_anew (C : gCx p l R s m args meth c D K own cc nL ret hh nm u0) {ρ : Type} {kd idx : Nat} {E : String} (hkd : kd < 6) (hE : gTy kd = .object E) (hz : gZero kd = .inr (.inr (.inr (.inr (fun _ => none))))) {n : Int32} {f : Nat → gS → Option ρ} {o : ρ} (d : decode cc pc = .ok (.anewarray idx, 3)) (hcl : Cond.classLink own idx E ∈ lw_all) (hao : va_AO E s) (hF : gB (oNewA kd n S) f = some o)
    (kk : ∀ q S1, f q S1 = some o → gW p l e R s m args below meth c D K nL u0 Q S1 (pc + 3) lv (va_rf (some q) :: st)) : gW p l e R s m args below meth c D K nL u0 Q S pc lv (.int n :: st) := by
  intro H locs ls hH hS hu hl
  obtain ⟨q, S1, h1, h2⟩ := gB_some hF
  obtain ⟨hn, hq, hS1, hb1, hb2⟩ := oNewA_obj h1
  rw [hH.1] at hb1
  have hsz := gSz hH hS
  have hbytes : n.toNatClampNeg * 4 ≤ 536870912 := by
    have h9 : n.toNatClampNeg ≤ 7293034 := Nat.le_trans (Nat.le_add_left _ _) hb2
    exact Nat.le_trans (Nat.mul_le_mul_right 4 h9) (by decide)
  refine W.anew C.1 C.2.1 C.2.2.2.1 (C.2.2.2.2.2.2.2.1 _ hcl) (va_AO.use hao) rfl d rfl hn hbytes (by rw [C.2.2.2.2.2.2.2.2.2.1]; exact g_rm hsz hb1) (by rw [C.2.2.2.2.2.2.2.2.2.2.1]; exact g_rm hu hb2) fun cA kA comp f1 f2 f3 f4 => ?_
  obtain ⟨hk1, hk2⟩ := gKd C hkd
  rw [hE] at hk1 hk2
  obtain ⟨kA2, comp2, k1, k2, k3, k4⟩ := hk2
  have hcA : cA = D.2 kd := Option.some.inj (f1.symm.trans k4)
  subst hcA
  generalize hH1 : H.push ({ cls := D.2 kd, slots := Array.replicate n.toNatClampNeg .null, vm := .none } : Cell) = H1
  have z2 : H1.size = H.size + 1 := by rw [← hH1, Array.size_push]
  have e1 : H1[H.size]? = some (arrV (D.2 kd) n.toNatClampNeg (fun _ => .null)) := by rw [← hH1, Array.getElem?_push_size, ← arrV_new]
  have o2 : ∀ q, q < H.size → H1[q]? = H[q]? := fun q h => by rw [← hH1]; exact Array.getElem?_push_lt h ▸ (Array.getElem?_eq_getElem h).symm
  have he : gAt D S.2.1 (true, .inr (kd, n.toNatClampNeg, gZero kd)) H1 := by
    refine gAt.of_arr ⟨hkd, ?_, fun h9 f9 hf j => ?_⟩
    · show H1[S.2.1]? = some (vp_cell (D.2 kd) (n.toNatClampNeg, gZero kd))
      rw [← hH.2.1, e1, hz]
      rfl
    · have hf : gZero kd = .inl f9 := hf
      rw [hz] at hf
      cases hf
  have hX := C.2.2.2.2.2.2.2.2.1.2.2.1
  have hHn : gH D K S1 H1 := by rw [hS1]; exact hH.push (Nat.le_trans hX hS.1) z2 o2 hb1 hb2 he
  have hk := kk q S1 h2 H1 _ ls hHn (hS.push z2 o2) (by rw [hS1]; exact Nat.le_trans hu (Nat.le_add_right _ _)) hl
  rw [hS1, hq] at hk
  have hk2 : W p l e R s m args below meth c H1 locs (S.2.1 + 1 - s.heap.size) (S.2.2.1 + n.toNatClampNeg - u0) Q (F0 m (pc + 3) ls (.ref S.2.1 :: st)) := hk
  rw [← g_rm2 hsz, ← g_rm2 hu] at hk2
  have e9 : S.2.1 = H.size := hH.2.1.symm
  rw [e9] at hk2 ⊢
  exact hk2
end GNW
