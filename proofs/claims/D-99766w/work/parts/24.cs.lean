set_option maxRecDepth 100000
section s24
variable {c : Nat} {td : Nat → Nat → Int32} {lw : Nat → Nat → Int32} {rw : Nat → Nat → Int32} {bf : Nat → Nat → Int32} {kp : Nat → Nat → Int32} {st : Nat → Nat → Int32} {ln : Nat → Nat → Int32} {rd : Nat → Nat → Int32} {rl : Nat → Nat → Int32} {rn : Nat → Nat → Int32} {ms : Nat → Nat → Int32} {sc : Nat → Nat → Int32} {mc : Nat → Nat → Int32} {fa : Nat → Int32} {pm : Nat → Int32} {xl : Nat → Int64} {pc : Nat → Int32} {rt : Nat → Option Nat} {ra : Nat → Nat → Option Nat} {ch : Nat → (Nat → Nat → Int32) × (Nat → Int32)} {ow : Nat → Option (Nat × Nat)} {ou : Nat → Int64} {B : gS}
/-- a choir lies at c + x -/
def isC (ow : Nat → Option (Nat × Nat)) (x : Nat) : Prop := ∀ k, k ≤ 5 → oE ow (x + k) = some (x, k)
theorem isC12 : isC ow 12 := fun k h => by unfold oE; rw [if_neg (by omega), if_pos (by omega)]; congr 2; omega
theorem isC18 : isC ow 18 := fun k h => by unfold oE; rw [if_neg (by omega), if_neg (by omega), if_pos (by omega)]; congr 2; omega
theorem oE_rng {d : Nat} {q : Nat × Nat} (h : oE ow d = some q) : (12 ≤ d ∧ d < 24) ∨ 596 ≤ d := by
  unfold oE at h
  repeat' split at h
  all_goals first | cases h; done | omega
theorem isC.rng {x : Nat} (h : isC ow x) : (12 ≤ x ∧ x + 5 < 24) ∨ 596 ≤ x := by
  have h0 := oE_rng (h 0 (by omega))
  have h5 := oE_rng (h 5 (by omega))
  omega
theorem lo_hi0 : ∀ d, d < 24 → 12 ≤ d → (lo d).2.2 = 0 := by decide +kernel
theorem lo_hi {d : Nat} (h : (12 ≤ d ∧ d < 24) ∨ 596 ≤ d) : (lo d).2.2 = 0 := by
  rcases h with h | h
  · exact lo_hi0 d h.2 h.1
  · unfold lo; rw [if_pos (by omega)]
theorem gr_hi {d : Nat} (h : (12 ≤ d ∧ d < 24) ∨ 596 ≤ d) : gr d = 0 := by
  unfold gr
  rw [if_neg (by omega), if_neg (by omega), if_neg (by omega), if_neg (by omega), if_neg (by omega), if_neg (by omega), if_neg (by omega), if_neg (by omega), if_neg (by omega), if_neg (by omega), if_neg (by omega), if_neg (by omega), if_neg (by omega)]
theorem zCell_ch {M : Nat → Nat → Nat → Int32} {x k : Nat} (h : isC ow x) (hk : k ≤ 5) : zCell c M pm xl pc rt ra ch ow ou (x + k) = some (zCho c x k (ch x)) := by
  have h1 := oE_rng (h k hk)
  unfold zCell
  rw [if_neg (by rw [lo_hi h1]; simp), if_neg (by rw [gr_hi h1]; simp), if_neg (by omega), if_neg (by omega), if_neg (by omega), if_neg (by omega), if_neg (by omega), if_neg (by omega), if_neg (by omega), h k hk]
  exact if_pos rfl

theorem cl_ch {x k : Nat} (h : isC ow x) (hk : k ≤ 5) : (zS c td lw rw bf kp st ln rd rl rn ms sc mc fa pm xl pc rt ra ch ow ou B).1 (c + (x + k)) = some (zCho c x k (ch x)) :=
  (zG_at (d := x + k) (Or.inr (Or.inr (Or.inr (by rw [h k hk]; rfl))))).trans (zCell_ch h hk)

theorem zCho_up {c x k j : Nat} {b b' : (Nat → Nat → Int32) × (Nat → Int32)} (hj : j ≠ k) (h0 : k ≠ 0 → b'.2 = b.2) (h1 : ∀ i, i + 1 ≠ k → b'.1 i = b.1 i) : zCho c x j b' = zCho c x j b := by
  unfold zCho
  split
  · rw [h0 (fun h => hj h.symm)]
  · rw [h1 4 (fun h => hj h)]
  · next j' h2 h3 =>
    rw [h1 (j - 1) (fun h => by have : j ≠ 0 := fun h9 => h2 h9; omega)]
theorem zG_ch {M : Nat → Nat → Nat → Int32} {x k : Nat} {b : (Nat → Nat → Int32) × (Nat → Int32)} (h : isC ow x) (hk : k ≤ 5) (h0 : k ≠ 0 → b.2 = (ch x).2) (h1 : ∀ i, i + 1 ≠ k → b.1 i = (ch x).1 i) : va_up (zG c M pm xl pc rt ra ch ow ou B).1 (c + (x + k)) (some (zCho c x k b)) = (zG c M pm xl pc rt ra (va_up ch x b) ow ou B).1 := by
  refine zG_up (Or.inr (Or.inr (Or.inr (by rw [h k hk]; rfl)))) ?_ (fun q hq => ?_)
  · rw [zCell_ch h hk, vu_same]
  · unfold zCell
    iterate 9 (split; · rfl)
    cases hy : oE ow q with
    | none => rfl
    | some y =>
      obtain ⟨y, j⟩ := y
      show (if q = y + j then some (zCho c y j (va_up ch x b y)) else none) = (if q = y + j then some (zCho c y j (ch y)) else none)
      by_cases h2 : q = y + j
      · rw [if_pos h2, if_pos h2]
        by_cases h3 : y = x
        · subst h3
          rw [vu_same, zCho_up (k := k) (fun h4 => hq (by rw [h2, h4])) h0 h1]
        · rw [vu_ne h3]
      · rw [if_neg h2, if_neg h2]

theorem cl_aCA0 {x : Nat} (h : isC ow x) : (zS c td lw rw bf kp st ln rd rl rn ms sc mc fa pm xl pc rt ra ch ow ou B).1 (aCA c x 0) = some (true, .inr (0, 7, .inl ((ch x).1 0))) := cl_ch (k := 1) h (by omega)
theorem ld_aCA0 {α : Type} {x : Nat} {i : Int32} (h : isC ow x) (hi : okx i 7) (f : Int32 → Option α) : (oLdI 0 (some (aCA c x 0)) i (zS c td lw rw bf kp st ln rd rl rn ms sc mc fa pm xl pc rt ra ch ow ou B)).bind f = f ((ch x).1 0 (nx i)) := b_ldI (cl_aCA0 h) hi f
theorem st_aCA0 {α : Type} {x : Nat} {i v : Int32} (h : isC ow x) (hi : okx i 7) (f : gS → Option α) : (oStI 0 (some (aCA c x 0)) i v (zS c td lw rw bf kp st ln rd rl rn ms sc mc fa pm xl pc rt ra ch ow ou B)).bind f = f (zS c td lw rw bf kp st ln rd rl rn ms sc mc fa pm xl pc rt ra (va_up ch x ((va_up (ch x).1 0 (va_up ((ch x).1 0) (nx i) v)), (ch x).2)) ow ou B) := by
  rw [b_stI (cl_aCA0 h) hi f]
  refine congrArg f (Prod.ext ?_ rfl)
  refine Eq.trans ?_ (zG_ch (k := 1) (b := ((va_up (ch x).1 0 (va_up ((ch x).1 0) (nx i) v)), (ch x).2)) h (by omega) (fun _ => rfl) (fun j hj => vu_ne (by omega)))
  show _ = va_up _ _ (some (true, Sum.inr (0, 7, Sum.inl (va_up (ch x).1 0 (va_up ((ch x).1 0) (nx i) v) 0))))
  rw [vu_same]
  rfl
theorem cp_aCA0 {α : Type} {x y : Nat} (h : isC ow x) (hy : isC ow y) (f : gS → Option α) : (oCopyI 0 (some (aCA c y 0)) (0 : Int32) (some (aCA c x 0)) (0 : Int32) (7 : Int32) (zS c td lw rw bf kp st ln rd rl rn ms sc mc fa pm xl pc rt ra ch ow ou B)).bind f = f (zS c td lw rw bf kp st ln rd rl rn ms sc mc fa pm xl pc rt ra (va_up ch x ((va_up (ch x).1 0 (va_cpy ((ch y).1 0) ((ch x).1 0) 0 0 7)), (ch x).2)) ow ou B) := by
  have h1 : oCopyI 0 (some (aCA c y 0)) (0 : Int32) (some (aCA c x 0)) (0 : Int32) (7 : Int32) (zS c td lw rw bf kp st ln rd rl rn ms sc mc fa pm xl pc rt ra ch ow ou B) = some (va_up (zS c td lw rw bf kp st ln rd rl rn ms sc mc fa pm xl pc rt ra ch ow ou B).1 (aCA c x 0) (some (true, .inr (0, 7, .inl (va_cpy ((ch y).1 0) ((ch x).1 0) 0 0 7)))), (zS c td lw rw bf kp st ln rd rl rn ms sc mc fa pm xl pc rt ra ch ow ou B).2) := by
    unfold oCopyI oArr gGet oOwn gGet
    simp only [cl_aCA0 h, cl_aCA0 hy, if_true]
    rfl
  rw [h1]
  refine congrArg f (Prod.ext ?_ rfl)
  refine Eq.trans ?_ (zG_ch (k := 1) (b := ((va_up (ch x).1 0 (va_cpy ((ch y).1 0) ((ch x).1 0) 0 0 7)), (ch x).2)) h (by omega) (fun _ => rfl) (fun j hj => vu_ne (by omega)))
  show _ = va_up _ _ (some (true, Sum.inr (0, 7, Sum.inl (va_up (ch x).1 0 (va_cpy ((ch y).1 0) ((ch x).1 0) 0 0 7) 0))))
  rw [vu_same]
  rfl
theorem cl_aCA1 {x : Nat} (h : isC ow x) : (zS c td lw rw bf kp st ln rd rl rn ms sc mc fa pm xl pc rt ra ch ow ou B).1 (aCA c x 1) = some (true, .inr (0, 7, .inl ((ch x).1 1))) := cl_ch (k := 2) h (by omega)
theorem ld_aCA1 {α : Type} {x : Nat} {i : Int32} (h : isC ow x) (hi : okx i 7) (f : Int32 → Option α) : (oLdI 0 (some (aCA c x 1)) i (zS c td lw rw bf kp st ln rd rl rn ms sc mc fa pm xl pc rt ra ch ow ou B)).bind f = f ((ch x).1 1 (nx i)) := b_ldI (cl_aCA1 h) hi f
theorem st_aCA1 {α : Type} {x : Nat} {i v : Int32} (h : isC ow x) (hi : okx i 7) (f : gS → Option α) : (oStI 0 (some (aCA c x 1)) i v (zS c td lw rw bf kp st ln rd rl rn ms sc mc fa pm xl pc rt ra ch ow ou B)).bind f = f (zS c td lw rw bf kp st ln rd rl rn ms sc mc fa pm xl pc rt ra (va_up ch x ((va_up (ch x).1 1 (va_up ((ch x).1 1) (nx i) v)), (ch x).2)) ow ou B) := by
  rw [b_stI (cl_aCA1 h) hi f]
  refine congrArg f (Prod.ext ?_ rfl)
  refine Eq.trans ?_ (zG_ch (k := 2) (b := ((va_up (ch x).1 1 (va_up ((ch x).1 1) (nx i) v)), (ch x).2)) h (by omega) (fun _ => rfl) (fun j hj => vu_ne (by omega)))
  show _ = va_up _ _ (some (true, Sum.inr (0, 7, Sum.inl (va_up (ch x).1 1 (va_up ((ch x).1 1) (nx i) v) 1))))
  rw [vu_same]
  rfl
theorem cp_aCA1 {α : Type} {x y : Nat} (h : isC ow x) (hy : isC ow y) (f : gS → Option α) : (oCopyI 0 (some (aCA c y 1)) (0 : Int32) (some (aCA c x 1)) (0 : Int32) (7 : Int32) (zS c td lw rw bf kp st ln rd rl rn ms sc mc fa pm xl pc rt ra ch ow ou B)).bind f = f (zS c td lw rw bf kp st ln rd rl rn ms sc mc fa pm xl pc rt ra (va_up ch x ((va_up (ch x).1 1 (va_cpy ((ch y).1 1) ((ch x).1 1) 0 0 7)), (ch x).2)) ow ou B) := by
  have h1 : oCopyI 0 (some (aCA c y 1)) (0 : Int32) (some (aCA c x 1)) (0 : Int32) (7 : Int32) (zS c td lw rw bf kp st ln rd rl rn ms sc mc fa pm xl pc rt ra ch ow ou B) = some (va_up (zS c td lw rw bf kp st ln rd rl rn ms sc mc fa pm xl pc rt ra ch ow ou B).1 (aCA c x 1) (some (true, .inr (0, 7, .inl (va_cpy ((ch y).1 1) ((ch x).1 1) 0 0 7)))), (zS c td lw rw bf kp st ln rd rl rn ms sc mc fa pm xl pc rt ra ch ow ou B).2) := by
    unfold oCopyI oArr gGet oOwn gGet
    simp only [cl_aCA1 h, cl_aCA1 hy, if_true]
    rfl
  rw [h1]
  refine congrArg f (Prod.ext ?_ rfl)
  refine Eq.trans ?_ (zG_ch (k := 2) (b := ((va_up (ch x).1 1 (va_cpy ((ch y).1 1) ((ch x).1 1) 0 0 7)), (ch x).2)) h (by omega) (fun _ => rfl) (fun j hj => vu_ne (by omega)))
  show _ = va_up _ _ (some (true, Sum.inr (0, 7, Sum.inl (va_up (ch x).1 1 (va_cpy ((ch y).1 1) ((ch x).1 1) 0 0 7) 1))))
  rw [vu_same]
  rfl
theorem cl_aCA2 {x : Nat} (h : isC ow x) : (zS c td lw rw bf kp st ln rd rl rn ms sc mc fa pm xl pc rt ra ch ow ou B).1 (aCA c x 2) = some (true, .inr (0, 7, .inl ((ch x).1 2))) := cl_ch (k := 3) h (by omega)
theorem ld_aCA2 {α : Type} {x : Nat} {i : Int32} (h : isC ow x) (hi : okx i 7) (f : Int32 → Option α) : (oLdI 0 (some (aCA c x 2)) i (zS c td lw rw bf kp st ln rd rl rn ms sc mc fa pm xl pc rt ra ch ow ou B)).bind f = f ((ch x).1 2 (nx i)) := b_ldI (cl_aCA2 h) hi f
theorem st_aCA2 {α : Type} {x : Nat} {i v : Int32} (h : isC ow x) (hi : okx i 7) (f : gS → Option α) : (oStI 0 (some (aCA c x 2)) i v (zS c td lw rw bf kp st ln rd rl rn ms sc mc fa pm xl pc rt ra ch ow ou B)).bind f = f (zS c td lw rw bf kp st ln rd rl rn ms sc mc fa pm xl pc rt ra (va_up ch x ((va_up (ch x).1 2 (va_up ((ch x).1 2) (nx i) v)), (ch x).2)) ow ou B) := by
  rw [b_stI (cl_aCA2 h) hi f]
  refine congrArg f (Prod.ext ?_ rfl)
  refine Eq.trans ?_ (zG_ch (k := 3) (b := ((va_up (ch x).1 2 (va_up ((ch x).1 2) (nx i) v)), (ch x).2)) h (by omega) (fun _ => rfl) (fun j hj => vu_ne (by omega)))
  show _ = va_up _ _ (some (true, Sum.inr (0, 7, Sum.inl (va_up (ch x).1 2 (va_up ((ch x).1 2) (nx i) v) 2))))
  rw [vu_same]
  rfl
theorem cp_aCA2 {α : Type} {x y : Nat} (h : isC ow x) (hy : isC ow y) (f : gS → Option α) : (oCopyI 0 (some (aCA c y 2)) (0 : Int32) (some (aCA c x 2)) (0 : Int32) (7 : Int32) (zS c td lw rw bf kp st ln rd rl rn ms sc mc fa pm xl pc rt ra ch ow ou B)).bind f = f (zS c td lw rw bf kp st ln rd rl rn ms sc mc fa pm xl pc rt ra (va_up ch x ((va_up (ch x).1 2 (va_cpy ((ch y).1 2) ((ch x).1 2) 0 0 7)), (ch x).2)) ow ou B) := by
  have h1 : oCopyI 0 (some (aCA c y 2)) (0 : Int32) (some (aCA c x 2)) (0 : Int32) (7 : Int32) (zS c td lw rw bf kp st ln rd rl rn ms sc mc fa pm xl pc rt ra ch ow ou B) = some (va_up (zS c td lw rw bf kp st ln rd rl rn ms sc mc fa pm xl pc rt ra ch ow ou B).1 (aCA c x 2) (some (true, .inr (0, 7, .inl (va_cpy ((ch y).1 2) ((ch x).1 2) 0 0 7)))), (zS c td lw rw bf kp st ln rd rl rn ms sc mc fa pm xl pc rt ra ch ow ou B).2) := by
    unfold oCopyI oArr gGet oOwn gGet
    simp only [cl_aCA2 h, cl_aCA2 hy, if_true]
    rfl
  rw [h1]
  refine congrArg f (Prod.ext ?_ rfl)
  refine Eq.trans ?_ (zG_ch (k := 3) (b := ((va_up (ch x).1 2 (va_cpy ((ch y).1 2) ((ch x).1 2) 0 0 7)), (ch x).2)) h (by omega) (fun _ => rfl) (fun j hj => vu_ne (by omega)))
  show _ = va_up _ _ (some (true, Sum.inr (0, 7, Sum.inl (va_up (ch x).1 2 (va_cpy ((ch y).1 2) ((ch x).1 2) 0 0 7) 2))))
  rw [vu_same]
  rfl
theorem cl_aCA3 {x : Nat} (h : isC ow x) : (zS c td lw rw bf kp st ln rd rl rn ms sc mc fa pm xl pc rt ra ch ow ou B).1 (aCA c x 3) = some (true, .inr (0, 7, .inl ((ch x).1 3))) := cl_ch (k := 4) h (by omega)
theorem ld_aCA3 {α : Type} {x : Nat} {i : Int32} (h : isC ow x) (hi : okx i 7) (f : Int32 → Option α) : (oLdI 0 (some (aCA c x 3)) i (zS c td lw rw bf kp st ln rd rl rn ms sc mc fa pm xl pc rt ra ch ow ou B)).bind f = f ((ch x).1 3 (nx i)) := b_ldI (cl_aCA3 h) hi f
theorem st_aCA3 {α : Type} {x : Nat} {i v : Int32} (h : isC ow x) (hi : okx i 7) (f : gS → Option α) : (oStI 0 (some (aCA c x 3)) i v (zS c td lw rw bf kp st ln rd rl rn ms sc mc fa pm xl pc rt ra ch ow ou B)).bind f = f (zS c td lw rw bf kp st ln rd rl rn ms sc mc fa pm xl pc rt ra (va_up ch x ((va_up (ch x).1 3 (va_up ((ch x).1 3) (nx i) v)), (ch x).2)) ow ou B) := by
  rw [b_stI (cl_aCA3 h) hi f]
  refine congrArg f (Prod.ext ?_ rfl)
  refine Eq.trans ?_ (zG_ch (k := 4) (b := ((va_up (ch x).1 3 (va_up ((ch x).1 3) (nx i) v)), (ch x).2)) h (by omega) (fun _ => rfl) (fun j hj => vu_ne (by omega)))
  show _ = va_up _ _ (some (true, Sum.inr (0, 7, Sum.inl (va_up (ch x).1 3 (va_up ((ch x).1 3) (nx i) v) 3))))
  rw [vu_same]
  rfl
theorem cp_aCA3 {α : Type} {x y : Nat} (h : isC ow x) (hy : isC ow y) (f : gS → Option α) : (oCopyI 0 (some (aCA c y 3)) (0 : Int32) (some (aCA c x 3)) (0 : Int32) (7 : Int32) (zS c td lw rw bf kp st ln rd rl rn ms sc mc fa pm xl pc rt ra ch ow ou B)).bind f = f (zS c td lw rw bf kp st ln rd rl rn ms sc mc fa pm xl pc rt ra (va_up ch x ((va_up (ch x).1 3 (va_cpy ((ch y).1 3) ((ch x).1 3) 0 0 7)), (ch x).2)) ow ou B) := by
  have h1 : oCopyI 0 (some (aCA c y 3)) (0 : Int32) (some (aCA c x 3)) (0 : Int32) (7 : Int32) (zS c td lw rw bf kp st ln rd rl rn ms sc mc fa pm xl pc rt ra ch ow ou B) = some (va_up (zS c td lw rw bf kp st ln rd rl rn ms sc mc fa pm xl pc rt ra ch ow ou B).1 (aCA c x 3) (some (true, .inr (0, 7, .inl (va_cpy ((ch y).1 3) ((ch x).1 3) 0 0 7)))), (zS c td lw rw bf kp st ln rd rl rn ms sc mc fa pm xl pc rt ra ch ow ou B).2) := by
    unfold oCopyI oArr gGet oOwn gGet
    simp only [cl_aCA3 h, cl_aCA3 hy, if_true]
    rfl
  rw [h1]
  refine congrArg f (Prod.ext ?_ rfl)
  refine Eq.trans ?_ (zG_ch (k := 4) (b := ((va_up (ch x).1 3 (va_cpy ((ch y).1 3) ((ch x).1 3) 0 0 7)), (ch x).2)) h (by omega) (fun _ => rfl) (fun j hj => vu_ne (by omega)))
  show _ = va_up _ _ (some (true, Sum.inr (0, 7, Sum.inl (va_up (ch x).1 3 (va_cpy ((ch y).1 3) ((ch x).1 3) 0 0 7) 3))))
  rw [vu_same]
  rfl
theorem cl_aCA4 {x : Nat} (h : isC ow x) : (zS c td lw rw bf kp st ln rd rl rn ms sc mc fa pm xl pc rt ra ch ow ou B).1 (aCA c x 4) = some (true, .inr (0, 20, .inl ((ch x).1 4))) := cl_ch (k := 5) h (by omega)
theorem ld_aCA4 {α : Type} {x : Nat} {i : Int32} (h : isC ow x) (hi : okx i 20) (f : Int32 → Option α) : (oLdI 0 (some (aCA c x 4)) i (zS c td lw rw bf kp st ln rd rl rn ms sc mc fa pm xl pc rt ra ch ow ou B)).bind f = f ((ch x).1 4 (nx i)) := b_ldI (cl_aCA4 h) hi f
theorem st_aCA4 {α : Type} {x : Nat} {i v : Int32} (h : isC ow x) (hi : okx i 20) (f : gS → Option α) : (oStI 0 (some (aCA c x 4)) i v (zS c td lw rw bf kp st ln rd rl rn ms sc mc fa pm xl pc rt ra ch ow ou B)).bind f = f (zS c td lw rw bf kp st ln rd rl rn ms sc mc fa pm xl pc rt ra (va_up ch x ((va_up (ch x).1 4 (va_up ((ch x).1 4) (nx i) v)), (ch x).2)) ow ou B) := by
  rw [b_stI (cl_aCA4 h) hi f]
  refine congrArg f (Prod.ext ?_ rfl)
  refine Eq.trans ?_ (zG_ch (k := 5) (b := ((va_up (ch x).1 4 (va_up ((ch x).1 4) (nx i) v)), (ch x).2)) h (by omega) (fun _ => rfl) (fun j hj => vu_ne (by omega)))
  show _ = va_up _ _ (some (true, Sum.inr (0, 20, Sum.inl (va_up (ch x).1 4 (va_up ((ch x).1 4) (nx i) v) 4))))
  rw [vu_same]
  rfl
theorem cp_aCA4 {α : Type} {x y : Nat} (h : isC ow x) (hy : isC ow y) (f : gS → Option α) : (oCopyI 0 (some (aCA c y 4)) (0 : Int32) (some (aCA c x 4)) (0 : Int32) (20 : Int32) (zS c td lw rw bf kp st ln rd rl rn ms sc mc fa pm xl pc rt ra ch ow ou B)).bind f = f (zS c td lw rw bf kp st ln rd rl rn ms sc mc fa pm xl pc rt ra (va_up ch x ((va_up (ch x).1 4 (va_cpy ((ch y).1 4) ((ch x).1 4) 0 0 20)), (ch x).2)) ow ou B) := by
  have h1 : oCopyI 0 (some (aCA c y 4)) (0 : Int32) (some (aCA c x 4)) (0 : Int32) (20 : Int32) (zS c td lw rw bf kp st ln rd rl rn ms sc mc fa pm xl pc rt ra ch ow ou B) = some (va_up (zS c td lw rw bf kp st ln rd rl rn ms sc mc fa pm xl pc rt ra ch ow ou B).1 (aCA c x 4) (some (true, .inr (0, 20, .inl (va_cpy ((ch y).1 4) ((ch x).1 4) 0 0 20)))), (zS c td lw rw bf kp st ln rd rl rn ms sc mc fa pm xl pc rt ra ch ow ou B).2) := by
    unfold oCopyI oArr gGet oOwn gGet
    simp only [cl_aCA4 h, cl_aCA4 hy, if_true]
    rfl
  rw [h1]
  refine congrArg f (Prod.ext ?_ rfl)
  refine Eq.trans ?_ (zG_ch (k := 5) (b := ((va_up (ch x).1 4 (va_cpy ((ch y).1 4) ((ch x).1 4) 0 0 20)), (ch x).2)) h (by omega) (fun _ => rfl) (fun j hj => vu_ne (by omega)))
  show _ = va_up _ _ (some (true, Sum.inr (0, 20, Sum.inl (va_up (ch x).1 4 (va_cpy ((ch y).1 4) ((ch x).1 4) 0 0 20) 4))))
  rw [vu_same]
  rfl
theorem cl_aCh {x : Nat} (h : isC ow x) : (zS c td lw rw bf kp st ln rd rl rn ms sc mc fa pm xl pc rt ra ch ow ou B).1 (aCh c x) = some (zCho c x 0 (ch x)) := cl_ch (k := 0) h (by omega)
theorem gh_0 {α : Type} {x : Nat} (h : isC ow x) (f : Option Nat → Option α) : (oGetR [2] 0 (some (aCh c x)) (zS c td lw rw bf kp st ln rd rl rn ms sc mc fa pm xl pc rt ra ch ow ou B)).bind f = f (some (aCA c x 0)) := b_getR (v := some (aCA c x 0)) (cl_aCh h) rfl rfl f
theorem gh_1 {α : Type} {x : Nat} (h : isC ow x) (f : Option Nat → Option α) : (oGetR [2] 1 (some (aCh c x)) (zS c td lw rw bf kp st ln rd rl rn ms sc mc fa pm xl pc rt ra ch ow ou B)).bind f = f (some (aCA c x 1)) := b_getR (v := some (aCA c x 1)) (cl_aCh h) rfl rfl f
theorem gh_2 {α : Type} {x : Nat} (h : isC ow x) (f : Option Nat → Option α) : (oGetR [2] 2 (some (aCh c x)) (zS c td lw rw bf kp st ln rd rl rn ms sc mc fa pm xl pc rt ra ch ow ou B)).bind f = f (some (aCA c x 2)) := b_getR (v := some (aCA c x 2)) (cl_aCh h) rfl rfl f
theorem gh_3 {α : Type} {x : Nat} (h : isC ow x) (f : Option Nat → Option α) : (oGetR [2] 3 (some (aCh c x)) (zS c td lw rw bf kp st ln rd rl rn ms sc mc fa pm xl pc rt ra ch ow ou B)).bind f = f (some (aCA c x 3)) := b_getR (v := some (aCA c x 3)) (cl_aCh h) rfl rfl f
theorem gh_4 {α : Type} {x : Nat} (h : isC ow x) (f : Option Nat → Option α) : (oGetR [2] 4 (some (aCh c x)) (zS c td lw rw bf kp st ln rd rl rn ms sc mc fa pm xl pc rt ra ch ow ou B)).bind f = f (some (aCA c x 4)) := b_getR (v := some (aCA c x 4)) (cl_aCh h) rfl rfl f
theorem gh_11 {α : Type} {x : Nat} (h : isC ow x) (f : Option Nat → Option α) : (oGetR [2] 11 (some (aCh c x)) (zS c td lw rw bf kp st ln rd rl rn ms sc mc fa pm xl pc rt ra ch ow ou B)).bind f = f (some (aV c)) := b_getR (v := some (aV c)) (cl_aCh h) rfl rfl f
theorem gh_5 {α : Type} {x : Nat} (h : isC ow x) (f : Int32 → Option α) : (oGetI [2] 5 (some (aCh c x)) (zS c td lw rw bf kp st ln rd rl rn ms sc mc fa pm xl pc rt ra ch ow ou B)).bind f = f ((ch x).2 5) := b_getI (cl_aCh h) rfl rfl f
theorem ph_5 {α : Type} {x : Nat} {v : Int32} (h : isC ow x) (f : gS → Option α) : (oPut [2] 5 (some (aCh c x)) (.int v) (zS c td lw rw bf kp st ln rd rl rn ms sc mc fa pm xl pc rt ra ch ow ou B)).bind f = f (zS c td lw rw bf kp st ln rd rl rn ms sc mc fa pm xl pc rt ra (va_up ch x ((ch x).1, va_up (ch x).2 5 v)) ow ou B) := by
  rw [b_put (cl_aCh h) ⟨rfl, (by decide : (5 : Nat) < 12)⟩ f]
  exact congrArg f (Prod.ext (zG_ch (k := 0) (b := ((ch x).1, va_up (ch x).2 5 v)) h (by omega) (fun h => absurd rfl h) (fun j hj => rfl)) rfl)
theorem gh_6 {α : Type} {x : Nat} (h : isC ow x) (f : Int32 → Option α) : (oGetI [2] 6 (some (aCh c x)) (zS c td lw rw bf kp st ln rd rl rn ms sc mc fa pm xl pc rt ra ch ow ou B)).bind f = f ((ch x).2 6) := b_getI (cl_aCh h) rfl rfl f
theorem ph_6 {α : Type} {x : Nat} {v : Int32} (h : isC ow x) (f : gS → Option α) : (oPut [2] 6 (some (aCh c x)) (.int v) (zS c td lw rw bf kp st ln rd rl rn ms sc mc fa pm xl pc rt ra ch ow ou B)).bind f = f (zS c td lw rw bf kp st ln rd rl rn ms sc mc fa pm xl pc rt ra (va_up ch x ((ch x).1, va_up (ch x).2 6 v)) ow ou B) := by
  rw [b_put (cl_aCh h) ⟨rfl, (by decide : (6 : Nat) < 12)⟩ f]
  exact congrArg f (Prod.ext (zG_ch (k := 0) (b := ((ch x).1, va_up (ch x).2 6 v)) h (by omega) (fun h => absurd rfl h) (fun j hj => rfl)) rfl)
theorem gh_7 {α : Type} {x : Nat} (h : isC ow x) (f : Int32 → Option α) : (oGetI [2] 7 (some (aCh c x)) (zS c td lw rw bf kp st ln rd rl rn ms sc mc fa pm xl pc rt ra ch ow ou B)).bind f = f ((ch x).2 7) := b_getI (cl_aCh h) rfl rfl f
theorem ph_7 {α : Type} {x : Nat} {v : Int32} (h : isC ow x) (f : gS → Option α) : (oPut [2] 7 (some (aCh c x)) (.int v) (zS c td lw rw bf kp st ln rd rl rn ms sc mc fa pm xl pc rt ra ch ow ou B)).bind f = f (zS c td lw rw bf kp st ln rd rl rn ms sc mc fa pm xl pc rt ra (va_up ch x ((ch x).1, va_up (ch x).2 7 v)) ow ou B) := by
  rw [b_put (cl_aCh h) ⟨rfl, (by decide : (7 : Nat) < 12)⟩ f]
  exact congrArg f (Prod.ext (zG_ch (k := 0) (b := ((ch x).1, va_up (ch x).2 7 v)) h (by omega) (fun h => absurd rfl h) (fun j hj => rfl)) rfl)
theorem gh_8 {α : Type} {x : Nat} (h : isC ow x) (f : Int32 → Option α) : (oGetI [2] 8 (some (aCh c x)) (zS c td lw rw bf kp st ln rd rl rn ms sc mc fa pm xl pc rt ra ch ow ou B)).bind f = f ((ch x).2 8) := b_getI (cl_aCh h) rfl rfl f
theorem ph_8 {α : Type} {x : Nat} {v : Int32} (h : isC ow x) (f : gS → Option α) : (oPut [2] 8 (some (aCh c x)) (.int v) (zS c td lw rw bf kp st ln rd rl rn ms sc mc fa pm xl pc rt ra ch ow ou B)).bind f = f (zS c td lw rw bf kp st ln rd rl rn ms sc mc fa pm xl pc rt ra (va_up ch x ((ch x).1, va_up (ch x).2 8 v)) ow ou B) := by
  rw [b_put (cl_aCh h) ⟨rfl, (by decide : (8 : Nat) < 12)⟩ f]
  exact congrArg f (Prod.ext (zG_ch (k := 0) (b := ((ch x).1, va_up (ch x).2 8 v)) h (by omega) (fun h => absurd rfl h) (fun j hj => rfl)) rfl)
theorem gh_9 {α : Type} {x : Nat} (h : isC ow x) (f : Int32 → Option α) : (oGetI [2] 9 (some (aCh c x)) (zS c td lw rw bf kp st ln rd rl rn ms sc mc fa pm xl pc rt ra ch ow ou B)).bind f = f ((ch x).2 9) := b_getI (cl_aCh h) rfl rfl f
theorem ph_9 {α : Type} {x : Nat} {v : Int32} (h : isC ow x) (f : gS → Option α) : (oPut [2] 9 (some (aCh c x)) (.int v) (zS c td lw rw bf kp st ln rd rl rn ms sc mc fa pm xl pc rt ra ch ow ou B)).bind f = f (zS c td lw rw bf kp st ln rd rl rn ms sc mc fa pm xl pc rt ra (va_up ch x ((ch x).1, va_up (ch x).2 9 v)) ow ou B) := by
  rw [b_put (cl_aCh h) ⟨rfl, (by decide : (9 : Nat) < 12)⟩ f]
  exact congrArg f (Prod.ext (zG_ch (k := 0) (b := ((ch x).1, va_up (ch x).2 9 v)) h (by omega) (fun h => absurd rfl h) (fun j hj => rfl)) rfl)
theorem gh_10 {α : Type} {x : Nat} (h : isC ow x) (f : Int32 → Option α) : (oGetI [2] 10 (some (aCh c x)) (zS c td lw rw bf kp st ln rd rl rn ms sc mc fa pm xl pc rt ra ch ow ou B)).bind f = f ((ch x).2 10) := b_getI (cl_aCh h) rfl rfl f
theorem ph_10 {α : Type} {x : Nat} {v : Int32} (h : isC ow x) (f : gS → Option α) : (oPut [2] 10 (some (aCh c x)) (.int v) (zS c td lw rw bf kp st ln rd rl rn ms sc mc fa pm xl pc rt ra ch ow ou B)).bind f = f (zS c td lw rw bf kp st ln rd rl rn ms sc mc fa pm xl pc rt ra (va_up ch x ((ch x).1, va_up (ch x).2 10 v)) ow ou B) := by
  rw [b_put (cl_aCh h) ⟨rfl, (by decide : (10 : Nat) < 12)⟩ f]
  exact congrArg f (Prod.ext (zG_ch (k := 0) (b := ((ch x).1, va_up (ch x).2 10 v)) h (by omega) (fun h => absurd rfl h) (fun j hj => rfl)) rfl)
theorem zvc {β : Type} {x : Nat} (h : isC ow x) (o : Option β) : gV [2] (some (aCh c x)) (zS c td lw rw bf kp st ln rd rl rn ms sc mc fa pm xl pc rt ra ch ow ou B) o = o := gV_of (cl_aCh h) rfl o
theorem bvc {β γ : Type} {x : Nat} (h : isC ow x) (o : Option β) (f : β → Option γ) : (gV [2] (some (aCh c x)) (zS c td lw rw bf kp st ln rd rl rn ms sc mc fa pm xl pc rt ra ch ow ou B) o).bind f = o.bind f := by rw [zvc h]
theorem gvc {β γ : Type} {x : Nat} (h : isC ow x) (o : Option (β × gS)) (f : β → gS → Option γ) : gB (gV [2] (some (aCh c x)) (zS c td lw rw bf kp st ln rd rl rn ms sc mc fa pm xl pc rt ra ch ow ou B) o) f = gB o f := by rw [zvc h]
theorem is_ch {x : Nat} (h : isC ow x) : oIs [2] (some (aCh c x)) (zS c td lw rw bf kp st ln rd rl rn ms sc mc fa pm xl pc rt ra ch ow ou B) = true := (is_of (cl_aCh h)).trans rfl
theorem st_aPs {α : Type} {x : Nat} {i : Int32} (h : isC ow x) (hi : okx i 16) (f : gS → Option α) : (oStR 4 [2] (some (aPs c)) i (some (aCh c x)) (zS c td lw rw bf kp st ln rd rl rn ms sc mc fa pm xl pc rt ra ch ow ou B)).bind f = f (zS c td lw rw bf kp st ln rd rl rn ms sc mc fa pm xl pc rt (va_up ra 0 (va_up (ra 0) (nx i) (some (aCh c x)))) ch ow ou B) := by
  have h1 : oStR 4 [2] (some (aPs c)) i (some (aCh c x)) (zS c td lw rw bf kp st ln rd rl rn ms sc mc fa pm xl pc rt ra ch ow ou B) = some (va_up (zS c td lw rw bf kp st ln rd rl rn ms sc mc fa pm xl pc rt ra ch ow ou B).1 (aPs c) (some (true, .inr (4, 16, .inr (.inr (.inr (.inr (va_up (ra 0) (nx i) (some (aCh c x))))))))), (zS c td lw rw bf kp st ln rd rl rn ms sc mc fa pm xl pc rt ra ch ow ou B).2) := by
    unfold oStR
    simp only [cl_aPs, is_ch h, and_self, if_true]
    exact if_neg hi
  rw [h1]
  exact congrArg f (Prod.ext (zG_up (d := 24) (by unfold zFx; omega) rfl (fun q h => by unfold zCell; rw [if_neg h, if_neg h]; rfl)) rfl)
theorem st_aIm {α : Type} {x : Nat} {i : Int32} (h : isC ow x) (hi : okx i 3) (f : gS → Option α) : (oStR 4 [2] (some (aIm c)) i (some (aCh c x)) (zS c td lw rw bf kp st ln rd rl rn ms sc mc fa pm xl pc rt ra ch ow ou B)).bind f = f (zS c td lw rw bf kp st ln rd rl rn ms sc mc fa pm xl pc rt (va_up ra 1 (va_up (ra 1) (nx i) (some (aCh c x)))) ch ow ou B) := by
  have h1 : oStR 4 [2] (some (aIm c)) i (some (aCh c x)) (zS c td lw rw bf kp st ln rd rl rn ms sc mc fa pm xl pc rt ra ch ow ou B) = some (va_up (zS c td lw rw bf kp st ln rd rl rn ms sc mc fa pm xl pc rt ra ch ow ou B).1 (aIm c) (some (true, .inr (4, 3, .inr (.inr (.inr (.inr (va_up (ra 1) (nx i) (some (aCh c x))))))))), (zS c td lw rw bf kp st ln rd rl rn ms sc mc fa pm xl pc rt ra ch ow ou B).2) := by
    unfold oStR
    simp only [cl_aIm, is_ch h, and_self, if_true]
    exact if_neg hi
  rw [h1]
  exact congrArg f (Prod.ext (zG_up (d := 25) (by unfold zFx; omega) rfl (fun q h => by unfold zCell; rw [if_neg h, if_neg h]; rfl)) rfl)
theorem st_aIP {α : Type} {x : Nat} {i : Int32} (h : isC ow x) (hi : okx i 48) (f : gS → Option α) : (oStR 4 [2] (some (aIP c)) i (some (aCh c x)) (zS c td lw rw bf kp st ln rd rl rn ms sc mc fa pm xl pc rt ra ch ow ou B)).bind f = f (zS c td lw rw bf kp st ln rd rl rn ms sc mc fa pm xl pc rt (va_up ra 2 (va_up (ra 2) (nx i) (some (aCh c x)))) ch ow ou B) := by
  have h1 : oStR 4 [2] (some (aIP c)) i (some (aCh c x)) (zS c td lw rw bf kp st ln rd rl rn ms sc mc fa pm xl pc rt ra ch ow ou B) = some (va_up (zS c td lw rw bf kp st ln rd rl rn ms sc mc fa pm xl pc rt ra ch ow ou B).1 (aIP c) (some (true, .inr (4, 48, .inr (.inr (.inr (.inr (va_up (ra 2) (nx i) (some (aCh c x))))))))), (zS c td lw rw bf kp st ln rd rl rn ms sc mc fa pm xl pc rt ra ch ow ou B).2) := by
    unfold oStR
    simp only [cl_aIP, is_ch h, and_self, if_true]
    exact if_neg hi
  rw [h1]
  exact congrArg f (Prod.ext (zG_up (d := 26) (by unfold zFx; omega) rfl (fun q h => by unfold zCell; rw [if_neg h, if_neg h]; rfl)) rfl)
/-! allocation -/
def bUp (a : Nat) (e : gE) (B : gS) : gS := (va_up B.1 a (some e), B.2)
/-- all from the next address on is free -/
def frsh (c : Nat) (ow : Nat → Option (Nat × Nat)) (B : gS) : Prop := c + 596 ≤ B.2.1 ∧ (∀ d, B.2.1 ≤ c + d → ow d = none) ∧ ∀ a, B.2.1 ≤ a → B.1 a = none
/-- there is room for n cells, m slots -/
def rm (n m : Nat) (B : gS) : Prop := B.2.1 + n ≤ gLim B.2.2.2 ∧ B.2.2.1 + m ≤ gUB
theorem frsh.nf (h : frsh c ow B) {a : Nat} (ha : B.2.1 ≤ a) : ¬ a < c ∧ ¬ zFx ow (a - c) := by
  obtain ⟨h1, h2, -⟩ := h
  refine ⟨by omega, fun h3 => ?_⟩
  unfold zFx at h3
  rcases h3 with h3 | h3 | h3 | h3
  · omega
  · omega
  · omega
  · unfold oE at h3
    rw [if_neg (by omega), if_neg (by omega), if_neg (by omega), if_neg (by omega), h2 (a - c) (by omega)] at h3
    cases h3
theorem zV_some {a : Nat} {e : gE} (h : zV c ow B a = some e) : B.1 a = some e ∧ (a < c ∨ ¬ zFx ow (a - c)) := by
  unfold zV at h
  split at h
  · next h1 => exact ⟨h, Or.inl h1⟩
  · split at h
    · cases h
    · next h2 => exact ⟨h, Or.inr h2⟩
theorem zV_of {a : Nat} (h : a < c ∨ ¬ zFx ow (a - c)) : zV c ow B a = B.1 a := by
  unfold zV
  split
  · rfl
  · next h1 => rw [if_neg (h.resolve_left h1)]
theorem zV_up {a : Nat} {e e' : gE} (h : zV c ow B a = some e) : zV c ow (bUp a e' B) a = some e' := by
  rw [zV_of (zV_some h).2]; exact vu_same _ _ _
theorem zV_une {a q : Nat} {e' : gE} (h : q ≠ a) : zV c ow (bUp a e' B) q = zV c ow B q := by
  have hq : (bUp a e' B).1 q = B.1 q := vu_ne h
  unfold zV
  rw [hq]
theorem zV_push {e : gE} {N : Nat} (h : frsh c ow B) : zV c ow (gPush e N B) B.2.1 = some e := by
  rw [zV_of (Or.inr (h.nf (Nat.le_refl _)).2)]; exact vu_same _ _ _
theorem zV_pne {e : gE} {N q : Nat} (h : q ≠ B.2.1) : zV c ow (gPush e N B) q = zV c ow B q := by
  have hq : (gPush e N B).1 q = B.1 q := vu_ne h
  unfold zV
  rw [hq]
theorem zV_lt {a : Nat} {e : gE} (h : frsh c ow B) (hv : zV c ow B a = some e) : a < B.2.1 := by
  refine Nat.lt_of_not_le (fun h1 => ?_)
  have h2 := (zV_some hv).1
  rw [h.2.2 a h1] at h2
  cases h2
theorem zV_pmono {a N : Nat} {e e' : gE} (h : frsh c ow B) (hv : zV c ow B a = some e) : zV c ow (gPush e' N B) a = some e := by
  rw [zV_pne (by have := zV_lt h hv; omega)]; exact hv
theorem frsh.push {e : gE} {N : Nat} (h : frsh c ow B) : frsh c ow (gPush e N B) := by
  obtain ⟨h1, h2, h3⟩ := h
  refine ⟨?_, fun d hd => h2 d ?_, fun a ha => ?_⟩
  · show c + 596 ≤ B.2.1 + 1; omega
  · have : B.2.1 + 1 ≤ c + d := hd
    omega
  · have ha' : B.2.1 + 1 ≤ a := ha
    exact (vu_ne (by omega)).trans (h3 a (by omega))
theorem frsh.bup {a : Nat} {e e' : gE} (h : frsh c ow B) (hv : zV c ow B a = some e) : frsh c ow (bUp a e' B) := by
  have h4 := zV_lt h hv
  obtain ⟨h1, h2, h3⟩ := h
  exact ⟨h1, h2, fun q hq => (vu_ne (by have : B.2.1 ≤ q := hq; omega)).trans (h3 q hq)⟩
theorem zS_push {e : gE} {N : Nat} (h : frsh c ow B) : gPush e N (zS c td lw rw bf kp st ln rd rl rn ms sc mc fa pm xl pc rt ra ch ow ou B) = (zS c td lw rw bf kp st ln rd rl rn ms sc mc fa pm xl pc rt ra ch ow ou (gPush e N B)) := by
  refine Prod.ext ?_ rfl
  funext a
  show va_up (zS c td lw rw bf kp st ln rd rl rn ms sc mc fa pm xl pc rt ra ch ow ou B).1 B.2.1 (some e) a = _
  by_cases ha : a = B.2.1
  · subst ha
    rw [vu_same]
    exact (zS_V (zV_push h)).symm
  · rw [vu_ne ha]
    show (if a < c then _ else @ite _ (zFx ow (a - c)) (Classical.propDecidable _) _ _) = (if a < c then _ else @ite _ (zFx ow (a - c)) (Classical.propDecidable _) _ _)
    rw [show (gPush e N B).1 a = B.1 a from vu_ne ha]
theorem zS_bup {a : Nat} {e e' : gE} (h : zV c ow B a = some e') : (va_up (zS c td lw rw bf kp st ln rd rl rn ms sc mc fa pm xl pc rt ra ch ow ou B).1 a (some e), (zS c td lw rw bf kp st ln rd rl rn ms sc mc fa pm xl pc rt ra ch ow ou B).2) = (zS c td lw rw bf kp st ln rd rl rn ms sc mc fa pm xl pc rt ra ch ow ou (bUp a e B)) := by
  refine Prod.ext ?_ rfl
  funext q
  by_cases ha : q = a
  · subst ha
    exact (vu_same _ _ _).trans (zS_V (zV_up h)).symm
  · refine (vu_ne ha).trans ?_
    show (if q < c then _ else @ite _ (zFx ow (q - c)) (Classical.propDecidable _) _ _) = (if q < c then _ else @ite _ (zFx ow (q - c)) (Classical.propDecidable _) _ _)
    rw [show (bUp a e B).1 q = B.1 q from vu_ne ha]
theorem al_new {α : Type} {ci : Nat} {fs : List Value} (h : frsh c ow B) (hr : rm 1 fs.length B) (f : Nat → gS → Option α) : gB (oNew ci fs (zS c td lw rw bf kp st ln rd rl rn ms sc mc fa pm xl pc rt ra ch ow ou B)) f = f B.2.1 (zS c td lw rw bf kp st ln rd rl rn ms sc mc fa pm xl pc rt ra ch ow ou (gPush (true, .inl (ci, fs)) fs.length B)) := by
  have h1 : oNew ci fs (zS c td lw rw bf kp st ln rd rl rn ms sc mc fa pm xl pc rt ra ch ow ou B) = some (B.2.1, (zS c td lw rw bf kp st ln rd rl rn ms sc mc fa pm xl pc rt ra ch ow ou (gPush (true, .inl (ci, fs)) fs.length B))) := by
    rw [← zS_push h]
    exact if_pos hr
  rw [h1]; rfl
theorem al_exc {α : Type} {ci : Nat} (h : frsh c ow B) (hr : rm 1 6 B) (f : Nat → gS → Option α) : gB (oExc ci (zS c td lw rw bf kp st ln rd rl rn ms sc mc fa pm xl pc rt ra ch ow ou B)) f = f B.2.1 (zS c td lw rw bf kp st ln rd rl rn ms sc mc fa pm xl pc rt ra ch ow ou (gPush (true, .inl (ci, [])) 6 B)) := by
  have h1 : oExc ci (zS c td lw rw bf kp st ln rd rl rn ms sc mc fa pm xl pc rt ra ch ow ou B) = some (B.2.1, (zS c td lw rw bf kp st ln rd rl rn ms sc mc fa pm xl pc rt ra ch ow ou (gPush (true, .inl (ci, [])) 6 B))) := by
    rw [← zS_push h]
    exact if_pos hr
  rw [h1]; rfl
theorem al_arr {α : Type} {kd : Nat} {n : Int32} (h : frsh c ow B) (hn : ¬ n < 0) (hr : rm 1 n.toNatClampNeg B) (f : Nat → gS → Option α) : gB (oNewA kd n (zS c td lw rw bf kp st ln rd rl rn ms sc mc fa pm xl pc rt ra ch ow ou B)) f = f B.2.1 (zS c td lw rw bf kp st ln rd rl rn ms sc mc fa pm xl pc rt ra ch ow ou (gPush (true, .inr (kd, n.toNatClampNeg, gZero kd)) n.toNatClampNeg B)) := by
  have h1 : oNewA kd n (zS c td lw rw bf kp st ln rd rl rn ms sc mc fa pm xl pc rt ra ch ow ou B) = some (B.2.1, (zS c td lw rw bf kp st ln rd rl rn ms sc mc fa pm xl pc rt ra ch ow ou (gPush (true, .inr (kd, n.toNatClampNeg, gZero kd)) n.toNatClampNeg B))) := by
    rw [← zS_push h]
    exact (if_neg hn).trans (if_pos hr)
  rw [h1]; rfl
/-! dynamic cells -/
theorem d_getI {α : Type} {cs : List Nat} {k a ci : Nat} {b : Bool} {fs : List Value} {v : Int32} (h : zV c ow B a = some (b, .inl (ci, fs))) (hc : cs.contains ci = true) (hv : fs[k]? = some (.int v)) (f : Int32 → Option α) : (oGetI cs k (some a) (zS c td lw rw bf kp st ln rd rl rn ms sc mc fa pm xl pc rt ra ch ow ou B)).bind f = f v := b_getI (zS_V h) hc hv f
theorem d_getR {α : Type} {cs : List Nat} {k a ci : Nat} {b : Bool} {fs : List Value} {v : Option Nat} (h : zV c ow B a = some (b, .inl (ci, fs))) (hc : cs.contains ci = true) (hv : fs[k]? = some (va_rf v)) (f : Option Nat → Option α) : (oGetR cs k (some a) (zS c td lw rw bf kp st ln rd rl rn ms sc mc fa pm xl pc rt ra ch ow ou B)).bind f = f v := b_getR (zS_V h) hc hv f
theorem d_put {α : Type} {cs : List Nat} {k a ci : Nat} {fs : List Value} {v : Value} (h : zV c ow B a = some (true, .inl (ci, fs))) (hc : cs.contains ci = true ∧ k < fs.length) (f : gS → Option α) : (oPut cs k (some a) v (zS c td lw rw bf kp st ln rd rl rn ms sc mc fa pm xl pc rt ra ch ow ou B)).bind f = f (zS c td lw rw bf kp st ln rd rl rn ms sc mc fa pm xl pc rt ra ch ow ou (bUp a (true, .inl (ci, fs.set k v)) B)) := by
  rw [b_put (zS_V h) hc f, zS_bup h]
theorem d_gv {β : Type} {cs : List Nat} {a ci : Nat} {b : Bool} {fs : List Value} (h : zV c ow B a = some (b, .inl (ci, fs))) (hc : cs.contains ci = true) (o : Option β) : gV cs (some a) (zS c td lw rw bf kp st ln rd rl rn ms sc mc fa pm xl pc rt ra ch ow ou B) o = o := gV_of (zS_V h) hc o
theorem d_is {cs : List Nat} {a ci : Nat} {b : Bool} {fs : List Value} (h : zV c ow B a = some (b, .inl (ci, fs))) : oIs cs (some a) (zS c td lw rw bf kp st ln rd rl rn ms sc mc fa pm xl pc rt ra ch ow ou B) = cs.contains ci := is_of (zS_V h)
theorem d_ldI {α : Type} {kd a n : Nat} {g : Nat → Int32} (h : zV c ow B a = some (true, .inr (kd, n, .inl g))) {i : Int32} (hi : okx i n) (f : Int32 → Option α) : (oLdI kd (some a) i (zS c td lw rw bf kp st ln rd rl rn ms sc mc fa pm xl pc rt ra ch ow ou B)).bind f = f (g (nx i)) := b_ldI (zS_V h) hi f
theorem d_ldR {α : Type} {kd a n : Nat} {b : Bool} {g : Nat → Option Nat} (h : zV c ow B a = some (b, .inr (kd, n, .inr (.inr (.inr (.inr g)))))) {i : Int32} (hi : okx i n) (f : Option Nat → Option α) : (oLdR kd (some a) i (zS c td lw rw bf kp st ln rd rl rn ms sc mc fa pm xl pc rt ra ch ow ou B)).bind f = f (g (nx i)) := b_ldR (zS_V h) hi f
theorem d_stI {α : Type} {kd a n : Nat} {g : Nat → Int32} (h : zV c ow B a = some (true, .inr (kd, n, .inl g))) {i x : Int32} (hi : okx i n) (f : gS → Option α) : (oStI kd (some a) i x (zS c td lw rw bf kp st ln rd rl rn ms sc mc fa pm xl pc rt ra ch ow ou B)).bind f = f (zS c td lw rw bf kp st ln rd rl rn ms sc mc fa pm xl pc rt ra ch ow ou (bUp a (true, .inr (kd, n, .inl (va_up g (nx i) (gNar kd x)))) B)) := by
  rw [b_stI (zS_V h) hi f, zS_bup h]
theorem d_stR {α : Type} {kd a n ci : Nat} {cs : List Nat} {b : Bool} {fs : List Value} {v : Nat} {g : Nat → Option Nat} (h : zV c ow B a = some (true, .inr (kd, n, .inr (.inr (.inr (.inr g)))))) (hv : zV c ow B v = some (b, .inl (ci, fs))) (hc : cs.contains ci = true) {i : Int32} (hi : okx i n) (f : gS → Option α) : (oStR kd cs (some a) i (some v) (zS c td lw rw bf kp st ln rd rl rn ms sc mc fa pm xl pc rt ra ch ow ou B)).bind f = f (zS c td lw rw bf kp st ln rd rl rn ms sc mc fa pm xl pc rt ra ch ow ou (bUp a (true, .inr (kd, n, .inr (.inr (.inr (.inr (va_up g (nx i) (some v))))))) B)) := by
  have h1 : oStR kd cs (some a) i (some v) (zS c td lw rw bf kp st ln rd rl rn ms sc mc fa pm xl pc rt ra ch ow ou B) = some (va_up (zS c td lw rw bf kp st ln rd rl rn ms sc mc fa pm xl pc rt ra ch ow ou B).1 a (some (true, .inr (kd, n, .inr (.inr (.inr (.inr (va_up g (nx i) (some v)))))))), (zS c td lw rw bf kp st ln rd rl rn ms sc mc fa pm xl pc rt ra ch ow ou B).2) := by
    unfold oStR
    simp only [zS_V h, d_is hv, hc, and_self, if_true]
    exact if_neg hi
  rw [h1, zS_bup h]; rfl
/-! judgement: it answers, and the answer and the state behind it satisfy Q -/
def zR {α : Type} (o : Option (α × gS)) (Q : α → gS → Prop) : Prop := ∃ v S, o = some (v, S) ∧ Q v S
theorem zR.ret {α : Type} {Q : α → gS → Prop} {v : α} {S : gS} (h : Q v S) : zR (some (v, S)) Q := ⟨v, S, rfl, h⟩
theorem zR.gB {α β : Type} {o : Option (α × gS)} {Q : α → gS → Prop} {Q' : β → gS → Prop} {f : α → gS → Option (β × gS)} (h : zR o Q) (k : ∀ v S, Q v S → zR (f v S) Q') : zR (gB o f) Q' := by
  obtain ⟨v, S, rfl, h⟩ := h
  exact k v S h
theorem zR.mono {α : Type} {o : Option (α × gS)} {Q Q' : α → gS → Prop} (h : zR o Q) (k : ∀ v S, Q v S → Q' v S) : zR o Q' := by
  obtain ⟨v, S, rfl, h⟩ := h
  exact ⟨v, S, rfl, k v S h⟩
theorem zR.gT {α β : Type} {o : Option ((α ⊕ (Nat × Nat)) × gS)} {Q : (α ⊕ (Nat × Nat)) → gS → Prop} {Q' : (β ⊕ (Nat × Nat)) → gS → Prop} {f : α → gS → Option ((β ⊕ (Nat × Nat)) × gS)} (h : zR o Q) (k : ∀ v S, Q (.inl v) S → zR (f v S) Q') (kx : ∀ x S, Q (.inr x) S → Q' (.inr x) S) : zR (gT o f) Q' := by
  obtain ⟨v, S, rfl, h⟩ := h
  cases v with
  | inl v => exact k v S h
  | inr x => exact ⟨_, _, rfl, kx x S h⟩
end s24
