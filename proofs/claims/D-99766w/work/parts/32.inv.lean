-- NAME 32.inv
set_option maxRecDepth 100000
theorem i32c (p : Int32) : p < iv 0 ∨ ∃ k, k < 2147483648 ∧ p = iv k := by
  by_cases h : p < iv 0
  · exact Or.inl h
  · refine Or.inr ⟨p.toNatClampNeg, Int32.toNatClampNeg_lt p, ?_⟩
    exact (Int32.ofNat_toNatClampNeg p (Int32.not_lt.mp h)).symm
theorem isIn_neg {p : Int32} (h : p < iv 0) (a : Nat) (ha : a < 2147483648) (q : Int32) : fX1_isIn p (iv a) q = iv 0 := by
  unfold fX1_isIn
  have : p < iv a := by
    refine Int32.lt_of_lt_of_le h ?_
    rw [iv_le (by omega) ha]; omega
  rw [if_pos this]; rfl
theorem isIn_iv {k a b : Nat} (hk : k < 2147483648) (ha : a < 2147483648) (hb : b < 2147483648) : fX1_isIn (iv k) (iv a) (iv b) = if a ≤ k ∧ k ≤ b then iv 1 else iv 0 := by
  unfold fX1_isIn
  simp only [iv_lt hk ha, iv_lt hb hk]
  by_cases h1 : k < a
  · rw [if_pos h1, if_neg (by omega)]; rfl
  · rw [if_neg h1]
    by_cases h2 : b < k
    · rw [if_pos h2, if_neg (by omega)]; rfl
    · rw [if_neg h2, if_pos (by omega)]; rfl
theorem isIn_no (p : Int32) : fX1_isIn p (iv 0) NO = iv 0 := by
  unfold fX1_isIn
  by_cases h : p < iv 0
  · rw [if_pos h]; rfl
  · rw [if_neg h, if_pos (Int32.lt_of_lt_of_le (by decide : NO < iv 0) (Int32.not_lt.mp h))]; rfl
theorem in_eq : fX6_in = fX1_isIn := by
  funext a b d
  unfold fX6_in fX1_isIn
  rfl
theorem has_eq : fX6_has = fX1_has := by
  funext a b
  unfold fX6_has fX1_has
  rfl
theorem isPart_neg {p : Int32} (h : p < iv 0) : fX1_isPart p = iv 0 := by
  unfold fX1_isPart
  have h1 : p ≠ iv 0 := fun e => by rw [e] at h; exact absurd h (by decide)
  have h2 : p ≠ iv 1 := fun e => by rw [e] at h; exact absurd h (by decide)
  rw [L0, L1, if_neg h1, if_neg h2]
theorem isPart_iv {k : Nat} (hk : k < 2147483648) : fX1_isPart (iv k) = if k ≤ 1 then iv 1 else iv 0 := by
  unfold fX1_isPart
  simp only [L0, L1, iv_eq hk (show 0 < 2147483648 by decide), iv_eq hk (show 1 < 2147483648 by decide)]
  by_cases h1 : k = 0
  · rw [if_pos h1, if_pos (by omega)]
  · rw [if_neg h1]
    by_cases h2 : k = 1
    · rw [if_pos h2, if_pos (by omega)]
    · rw [if_neg h2, if_neg (by omega)]
theorem neg_ne {p : Int32} (h : p < iv 0) {k : Nat} (hk : k < 2147483648) : (p = iv k) = False := eq_false (fun e => by rw [e, iv_nn hk] at h; exact h)
section s32
variable {c : Nat} {td : Nat → Nat → Int32} {lw : Nat → Nat → Int32} {rw : Nat → Nat → Int32} {bf : Nat → Nat → Int32} {kp : Nat → Nat → Int32} {st : Nat → Nat → Int32} {ln : Nat → Nat → Int32} {rd : Nat → Nat → Int32} {rl : Nat → Nat → Int32} {rn : Nat → Nat → Int32} {ms : Nat → Nat → Int32} {sc : Nat → Nat → Int32} {mc : Nat → Nat → Int32} {fa : Nat → Int32} {pm : Nat → Int32} {xl : Nat → Int64} {pc : Nat → Int32} {rt : Nat → Option Nat} {ra : Nat → Nat → Option Nat} {ch : Nat → (Nat → Nat → Int32) × (Nat → Int32)} {ow : Nat → Option (Nat × Nat)} {ou : Nat → Int64} {B : gS}
variable {tq : Nat → Nat → Int32} {F : (Nat → Int32) → Int32} {nS nN nL x y : Nat} {sgA ntA lkA : Nat → Nat} {ρ : Nat → Int32}
theorem lsO.mono {V V' : Nat → Option gE} {l n : Nat} {E : Nat → Nat} (h : lsO V l n E) (hm : ∀ a e, V a = some e → V' a = some e) : lsO V' l n E := by
  obtain ⟨b, b', md, e, cap, f, h1, h2, h3⟩ := h
  exact ⟨b, b', md, e, cap, f, hm _ _ h1, hm _ _ h2, h3⟩
theorem tO.mono {V V' : Nat → Option gE} (h : tO V rt tq nS nN nL sgA ntA lkA) (hm : ∀ a e, V a = some e → V' a = some e) : tO V' rt tq nS nN nL sgA ntA lkA := by
  obtain ⟨h0, h00, h01, ⟨t, l1, l2, l3, b, cl, h1, h2, h3, h4, h5⟩, h6, h7, h8⟩ := h
  exact ⟨h0, h00, h01, ⟨t, l1, l2, l3, b, cl, h1, hm _ _ h2, h3.mono hm, h4.mono hm, h5.mono hm⟩, fun s hs => (h6 s hs).imp fun _ q => hm _ _ q, fun s hs => (h7 s hs).imp fun _ q => hm _ _ q, fun s hs => (h8 s hs).imp fun _ q => hm _ _ q⟩
theorem tmO.mono {V V' : Nat → Option gE} (hm : ∀ a e, V a = some e → V' a = some e) : ∀ (d : Nat) {t : Nat} {F : (Nat → Int32) → Int32}, tmO V d t F → tmO V' d t F := by
  intro d
  induction d with
  | zero => intro t F h; exact h
  | succ d ih =>
    intro t F h
    rcases h with ⟨b, n, h, rfl⟩ | ⟨b, w, h, hw, rfl⟩ | ⟨b, ci, u, v, Fu, Fv, h, h1, h2, h3, h4, rfl⟩
    · exact Or.inl ⟨b, n, hm _ _ h, rfl⟩
    · exact Or.inr (Or.inl ⟨b, w, hm _ _ h, hw, rfl⟩)
    · exact Or.inr (Or.inr ⟨b, ci, u, v, Fu, Fv, hm _ _ h, h1, h2, ih h3, ih h4, rfl⟩)
theorem lwO.mono {V V' : Nat → Option gE} (h : lwO V rt F) (hm : ∀ a e, V a = some e → V' a = some e) : lwO V' rt F := by
  obtain ⟨h1, t, h2, h3⟩ := h
  exact ⟨h1, t, h2, tmO.mono hm _ h3⟩
theorem c_need1 : fX1_need (some (aV c)) (iv 1) (zS c td lw rw bf kp st ln rd rl rn ms sc mc fa pm xl pc rt ra ch ow ou B) = some (.inl (), (zS c td lw rw bf kp st ln rd rl rn ms sc mc fa pm xl pc rt ra ch ow ou B)) := by
  unfold fX1_need
  rw [if_neg (by decide)]
theorem c_thr {α : Type} {ci a : Nat} (h : zV c ow B a = some (true, .inl (ci, []))) : (oThrow ci (some a) (zS c td lw rw bf kp st ln rd rl rn ms sc mc fa pm xl pc rt ra ch ow ou B) : Option ((α ⊕ (Nat × Nat)) × gS)) = some (.inr (ci, a), (zS c td lw rw bf kp st ln rd rl rn ms sc mc fa pm xl pc rt ra ch ow ou B)) := by
  unfold oThrow
  have h1 : oOwn (some a) (zS c td lw rw bf kp st ln rd rl rn ms sc mc fa pm xl pc rt ra ch ow ou B) = true := by
    unfold oOwn gGet
    simp only [zS_V h]
  have h2 : oIs [ci] (some a) (zS c td lw rw bf kp st ln rd rl rn ms sc mc fa pm xl pc rt ra ch ow ou B) = true := by
    rw [d_is h]
    simp
  simp only [h1, h2, and_self, if_true]
/-- B with an exception more -/
def bX (ci : Nat) (B : gS) : gS := gPush (true, .inl (ci, [])) 6 B
theorem c_need0 (hf : frsh c ow B) (hr : rm 1 6 B) : fX1_need (some (aV c)) (iv 0) (zS c td lw rw bf kp st ln rd rl rn ms sc mc fa pm xl pc rt ra ch ow ou B) = some (.inr (31, B.2.1), (zS c td lw rw bf kp st ln rd rl rn ms sc (va_up mc 1 (va_up (mc 1) 1 (mc 1 1 + iv 1))) fa pm xl pc rt ra ch ow ou (bX 31 B))) := by
  unfold fX1_need
  simp (disch := first | assumption | omega | (simp (disch := omega) only [okx_iv', nx_iv, iv_add, L0, L1, L2, L3, L7, L8, L14, L21, L28, L35, L55, L56, *]; try omega)) only [↓gv_4, ↓ld_aRe, ↓st_aRe, L0, L1, iv_add, no_def, nx_iv, okx_iv', iv_le, iv_lt, iv_eq, iv_no, no_iv, Nat.not_lt_zero, Nat.le_refl, vu_same, vu_ne, vu_up, ↓reduceIte, ↓al_exc hf hr]
  exact c_thr (zV_push hf)
theorem c_there1 {k n : Nat} (hk : k < n) (hn : n < 2147483648) : fX1_needThere (some (aV c)) (iv k) (iv n) (zS c td lw rw bf kp st ln rd rl rn ms sc mc fa pm xl pc rt ra ch ow ou B) = some (.inl (), (zS c td lw rw bf kp st ln rd rl rn ms sc mc fa pm xl pc rt ra ch ow ou B)) := by
  unfold fX1_needThere
  have : ¬ n ≤ k := by omega
  simp (disch := first | assumption | omega | (simp (disch := omega) only [okx_iv', nx_iv, iv_add, L0, L1, L2, L3, L7, L8, L14, L21, L28, L35, L55, L56, *]; try omega)) only [L0, iv_add, no_def, nx_iv, okx_iv', iv_le, iv_lt, iv_eq, iv_no, no_iv, Nat.not_lt_zero, Nat.le_refl, vu_same, vu_ne, vu_up, ↓reduceIte, this]
theorem c_there0 (hf : frsh c ow B) (hr : rm 1 6 B) {p q : Int32} (hp : p < iv 0 ∨ q ≤ p) : fX1_needThere (some (aV c)) p q (zS c td lw rw bf kp st ln rd rl rn ms sc mc fa pm xl pc rt ra ch ow ou B) = some (.inr (32, B.2.1), (zS c td lw rw bf kp st ln rd rl rn ms sc (va_up mc 1 (va_up (mc 1) 0 (mc 1 0 + iv 1))) fa pm xl pc rt ra ch ow ou (bX 32 B))) := by
  have h1 : fX1_needThere_j10 (some (aV c)) (zS c td lw rw bf kp st ln rd rl rn ms sc mc fa pm xl pc rt ra ch ow ou B) = some (.inr (32, B.2.1), (zS c td lw rw bf kp st ln rd rl rn ms sc (va_up mc 1 (va_up (mc 1) 0 (mc 1 0 + iv 1))) fa pm xl pc rt ra ch ow ou (bX 32 B))) := by
    unfold fX1_needThere_j10
    simp (disch := first | assumption | omega | (simp (disch := omega) only [okx_iv', nx_iv, iv_add, L0, L1, L2, L3, L7, L8, L14, L21, L28, L35, L55, L56, *]; try omega)) only [↓gv_4, ↓ld_aRe, ↓st_aRe, L0, L1, iv_add, no_def, nx_iv, okx_iv', iv_le, iv_lt, iv_eq, iv_no, no_iv, Nat.not_lt_zero, Nat.le_refl, vu_same, vu_ne, vu_up, ↓reduceIte, ↓al_exc hf hr]
    exact c_thr (zV_push hf)
  unfold fX1_needThere
  simp only [L0, h1]
  by_cases h2 : p < iv 0
  · rw [if_pos h2]
  · rw [if_neg h2, if_pos (hp.resolve_left h2)]
theorem s_bad0 {k r : Int32} (h : pm 0 = iv 0) : fX6_bad (some (aM c)) (iv 0) k r (zS c td lw rw bf kp st ln rd rl rn ms sc mc fa pm xl pc rt ra ch ow ou B) = some (iv 0, (zS c td lw rw bf kp st ln rd rl rn ms sc mc fa pm xl pc rt ra ch ow ou B)) := by
  unfold fX6_bad fX6_bad_j26
  simp (disch := first | assumption | omega | (simp (disch := omega) only [okx_iv', nx_iv, iv_add, L0, L1, L2, L3, L7, L8, L14, L21, L28, L35, L55, L56, *]; try omega)) only [↓gm_0, L0, L1, iv_add, no_def, nx_iv, okx_iv', iv_le, iv_lt, iv_eq, iv_no, no_iv, Nat.not_lt_zero, Nat.le_refl, vu_same, vu_ne, vu_up, ↓reduceIte, h]
theorem s_bad1 {k r : Nat} (h : pm 0 = iv 0) (hk : 1 ≤ k ∧ k < 3) (hr : r < 2) : fX6_bad (some (aM c)) (iv 1) (iv k) (iv r) (zS c td lw rw bf kp st ln rd rl rn ms sc mc fa pm xl pc rt ra ch ow ou B) = some (iv 1, (zS c td lw rw bf kp st ln rd rl rn (va_up ms 1 (va_up (ms 1) r (ms 1 r + iv 1))) sc mc fa (va_up pm 0 (iv k)) xl pc rt ra ch ow ou B)) := by
  unfold fX6_bad fX6_bad_j26
  have hk0 : ¬ k = 0 := by omega
  simp (disch := first | assumption | omega | (simp (disch := omega) only [okx_iv', nx_iv, iv_add, L0, L1, L2, L3, L7, L8, L14, L21, L28, L35, L55, L56, *]; try omega)) only [↓gm_0, ↓gm_10, ↓pm_0, ↓ld_aRef, ↓st_aRef, L0, L1, iv_add, no_def, nx_iv, okx_iv', iv_le, iv_lt, iv_eq, iv_no, no_iv, Nat.not_lt_zero, Nat.le_refl, vu_same, vu_ne, vu_up, ↓reduceIte, h, hk0, Nat.one_ne_zero]
end s32
/-! ===== THE INVARIANT between the system's world and the reference's ===== -/
def chO (nS nN m : Nat) (b : (Nat → Nat → Int32) × (Nat → Int32)) (ρ : Nat → Int32) : Prop := CR nS nN b ρ ∧ (∃ d, d ≤ 400 ∧ ρ 56 = iv d) ∧ (∀ s, s < nS → ∃ a, a ≤ m ∧ ρ (28 + s) = iv a) ∧ ∃ q, q < 2 ^ nS ∧ b.2 5 = iv q
theorem chO.le {nS nN m m' : Nat} {b : (Nat → Nat → Int32) × (Nat → Int32)} {ρ : Nat → Int32} (h : chO nS nN m b ρ) (hm : m ≤ m') : chO nS nN m' b ρ := by
  obtain ⟨h1, h2, h3, h4⟩ := h
  exact ⟨h1, h2, fun s hs => (h3 s hs).imp fun a q => ⟨by omega, q.2⟩, h4⟩
def tdV (td : Nat → Nat → Int32) (nS nN nL : Nat) : Prop := (∀ s, s < nS → ∃ v, v < 6 ∧ td (1 + s) 0 = iv v) ∧ (∀ n, n < nN → ∃ v, v < 6 ∧ td (8 + n) 0 = iv v) ∧ (∀ k, k < nL → ∃ v, v < 6 ∧ td (28 + k) 1 = iv v)
def bkO (mc : Nat → Nat → Int32) (ln : Nat → Nat → Int32) (nN m : Nat) : Prop := m ≤ 20 ∧ (∀ k, k < m → ∃ n, n < nN ∧ ln k 0 = iv n ∧ mc 0 n = ln k 1 ∧ (ln k 1 = iv 0 ∨ ln k 1 = iv 1)) ∧ (∀ n, n < 20 → mc 0 n = NO ∨ ∃ k, k < m ∧ ln k 0 = iv n)
def b8 (x y : Int32) : Prop := ∃ b, b < 256 ∧ y = iv b ∧ x = if b < 128 then iv b else iv b - iv 256
def slO (c : Nat) (ow : Nat → Option (Nat × Nat)) (ra : Nat → Nat → Option Nat) : Prop := (∀ q i a, ra q i = some a → ∃ x, a = aCh c x ∧ isC ow x ∧ 596 ≤ x) ∧ ∀ q i q' i' a, ra q i = some a → ra q' i' = some a → q = q' ∧ i = i'
def psO (c : Nat) (ra : Nat → Nat → Option Nat) (ch : Nat → (Nat → Nat → Int32) × (Nat → Int32)) (bf : Nat → Nat → Int32) (nS nN m wk : Nat) : Prop := ∀ r, r < wk → ∃ x, ra 0 r = some (aCh c x) ∧ chO nS nN m (ch x) (bf r)
def imO (c : Nat) (ra : Nat → Nat → Option Nat) (ch : Nat → (Nat → Nat → Int32) × (Nat → Int32)) (kp mc : Nat → Nat → Int32) (nS nN m im : Nat) : Prop := ∀ i, i < im → (∃ x, ra 1 i = some (aCh c x) ∧ chO nS nN m (ch x) (fun j => kp i (1 + j))) ∧ ∃ wi, wi ≤ 16 ∧ kp i 0 = iv wi ∧ mc 2 i = iv wi ∧ ∀ r, r < wi → ∃ x, ra 2 (16 * i + r) = some (aCh c x) ∧ chO nS nN m (ch x) (fun j => kp i (58 + 57 * r + j))
/-- what both sides have told -/
def iT (c : Nat) (td : Nat → Nat → Int32) (rt : Nat → Option Nat) (ow : Nat → Option (Nat × Nat)) (B : gS) (nS nN nL : Nat) (sgA ntA lkA : Nat → Nat) : Prop := tOK td nS nN nL ∧ tO (zV c ow B) rt td nS nN nL sgA ntA lkA ∧ tdV td nS nN nL
def iL (c : Nat) (lw : Nat → Nat → Int32) (pm : Nat → Int32) (rt : Nat → Option Nat) (ow : Nat → Option (Nat × Nat)) (B : gS) (F : (Nat → Int32) → Int32) : Prop := (∃ k, lOK lw k F ∧ pm 19 = iv k) ∧ lwO (zV c ow B) rt F
/-- the plain numbers -/
def iN (ms : Nat → Nat → Int32) (pm : Nat → Int32) (mc : Nat → Nat → Int32) (pc : Nat → Int32) (tp wk im lm : Nat) : Prop := (tp ≤ 600 ∧ pm 1 = iv tp ∧ pc 15 = iv tp ∧ ∀ j, j < tp → b8 (mc 3 j) (ms 0 j)) ∧ pm 3 = pc 16 ∧ (wk ≤ 16 ∧ pm 34 = iv wk ∧ pc 11 = iv wk) ∧ pm 35 = pc 12 ∧ (im ≤ 3 ∧ pm 36 = iv im ∧ pc 17 = iv im) ∧ (pm 33 = iv lm ∧ pc 13 = iv lm) ∧ ms 1 0 = mc 1 0 ∧ ms 1 1 = mc 1 1
def iB (c : Nat) (ow : Nat → Option (Nat × Nat)) (B : gS) (n : Nat) : Prop := frsh c ow B ∧ B.2.1 ≤ c + 700 + 9000 * n ∧ B.2.2.1 ≤ 30000 + 100000 * n ∧ gLim B.2.2.2 = c + 601024
theorem iB.rm {c : Nat} {ow : Nat → Option (Nat × Nat)} {B : gS} {n u v : Nat} (h : iB c ow B n) (hn : n < 64) (hu : u ≤ 9000) (hv : v ≤ 100000) : rm u v B := by
  obtain ⟨-, h1, h2, h3⟩ := h
  refine ⟨by rw [h3]; omega, ?_⟩
  unfold gUB
  omega
def invA (c : Nat) (td lw rw bf kp st ln rd rl rn ms sc mc : Nat → Nat → Int32) (fa pm : Nat → Int32) (xl : Nat → Int64) (pc : Nat → Int32) (rt : Nat → Option Nat) (ra : Nat → Nat → Option Nat) (ch : Nat → (Nat → Nat → Int32) × (Nat → Int32)) (ow : Nat → Option (Nat × Nat)) (ou : Nat → Int64) (B : gS) (nS nN nL : Nat) (sgA ntA lkA : Nat → Nat) (F : (Nat → Int32) → Int32) (tp wk im lm n : Nat) : Prop := iT c td rt ow B nS nN nL sgA ntA lkA ∧ iL c lw pm rt ow B F ∧ iN ms pm mc pc tp wk im lm ∧ chO nS nN (4000 * n) (ch 12) (rw 0) ∧ bkO mc ln nN lm ∧ slO c ow ra ∧ psO c ra ch bf nS nN (4000 * n) wk ∧ imO c ra ch kp mc nS nN (4000 * n) im ∧ iB c ow B n
/-- the invariant behind n calls -/
def inv (n : Nat) (S : gS) (c : Nat) : Prop := ∃ (td lw rw bf kp st ln rd rl rn ms sc mc : Nat → Nat → Int32) (fa pm : Nat → Int32) (xl : Nat → Int64) (pc : Nat → Int32) (rt : Nat → Option Nat) (ra : Nat → Nat → Option Nat) (ch : Nat → (Nat → Nat → Int32) × (Nat → Int32)) (ow : Nat → Option (Nat × Nat)) (ou : Nat → Int64) (B : gS) (nS nN nL : Nat) (sgA ntA lkA : Nat → Nat) (F : (Nat → Int32) → Int32) (tp wk im lm : Nat), S = (zS c td lw rw bf kp st ln rd rl rn ms sc mc fa pm xl pc rt ra ch ow ou B) ∧ invA c td lw rw bf kp st ln rd rl rn ms sc mc fa pm xl pc rt ra ch ow ou B nS nN nL sgA ntA lkA F tp wk im lm n
theorem chO.kept {nS nN m m' : Nat} {b b' : (Nat → Nat → Int32) × (Nat → Int32)} {ρ : Nat → Int32} (h : chO nS nN m b ρ) (e : b' = b) (hm : m ≤ m') : chO nS nN m' b' ρ := by rw [e]; exact h.le hm
theorem iB.next {c : Nat} {ow : Nat → Option (Nat × Nat)} {B : gS} {n : Nat} (h : iB c ow B n) : iB c ow B (n + 1) := ⟨h.1, by have := h.2.1; omega, by have := h.2.2.1; omega, h.2.2.2⟩
theorem iB.exc {c : Nat} {ow : Nat → Option (Nat × Nat)} {B : gS} {n ci : Nat} (h : iB c ow B n) : iB c ow (bX ci B) (n + 1) := by
  obtain ⟨h1, h2, h3, h4⟩ := h
  refine ⟨h1.push, ?_, ?_, h4⟩
  · show B.2.1 + 1 ≤ _; omega
  · show B.2.2.1 + 6 ≤ _; omega
section s32b
variable {c : Nat} {td : Nat → Nat → Int32} {lw : Nat → Nat → Int32} {rw : Nat → Nat → Int32} {bf : Nat → Nat → Int32} {kp : Nat → Nat → Int32} {st : Nat → Nat → Int32} {ln : Nat → Nat → Int32} {rd : Nat → Nat → Int32} {rl : Nat → Nat → Int32} {rn : Nat → Nat → Int32} {ms : Nat → Nat → Int32} {sc : Nat → Nat → Int32} {mc : Nat → Nat → Int32} {fa : Nat → Int32} {pm : Nat → Int32} {xl : Nat → Int64} {pc : Nat → Int32} {rt : Nat → Option Nat} {ra : Nat → Nat → Option Nat} {ch : Nat → (Nat → Nat → Int32) × (Nat → Int32)} {ow : Nat → Option (Nat × Nat)} {ou : Nat → Int64} {B : gS}
variable {nS nN nL : Nat} {sgA ntA lkA : Nat → Nat} {F : (Nat → Int32) → Int32} {tp wk im lm n : Nat}
/-- a question changes nothing that the invariant speaks of -/
theorem inv_q (I : invA c td lw rw bf kp st ln rd rl rn ms sc mc fa pm xl pc rt ra ch ow ou B nS nN nL sgA ntA lkA F tp wk im lm n) {rw' rd' rl' rn' st' ms' sc' mc' : Nat → Nat → Int32} {fa' pm' : Nat → Int32} {xl' : Nat → Int64} {pc' : Nat → Int32} {ch' : Nat → (Nat → Nat → Int32) × (Nat → Int32)} {ou' : Nat → Int64} {B' : gS}
    (e1 : rw' 0 = rw 0) (e2 : ∀ k, k = 1 ∨ k = 3 ∨ k = 19 ∨ k = 33 ∨ k = 34 ∨ k = 35 ∨ k = 36 → pm' k = pm k) (e3 : ms' 0 = ms 0) (e4 : ∀ k, k = 0 ∨ k = 2 ∨ k = 3 → mc' k = mc k) (e5 : ms' 1 0 = mc' 1 0 ∧ ms' 1 1 = mc' 1 1) (e6 : ∀ k, k = 11 ∨ k = 12 ∨ k = 13 ∨ k = 15 ∨ k = 16 ∨ k = 17 → pc' k = pc k) (e7 : ∀ x, x ≠ 18 → ch' x = ch x) (e8 : B' = B ∨ ∃ ci, B' = bX ci B) : inv (n + 1) (zS c td lw (rw') bf kp (st') ln (rd') (rl') (rn') (ms') (sc') (mc') (fa') (pm') (xl') (pc') rt ra (ch') ow (ou') (B')) c := by
  obtain ⟨hT, hL, hN, hC, hb, hs, hp, hi, hB⟩ := I
  have hm : ∀ a e, zV c ow B a = some e → zV c ow B' a = some e := by
    rcases e8 with rfl | ⟨ci, rfl⟩
    · exact fun _ _ h => h
    · exact fun _ _ h => zV_pmono hB.1 h
  have hB' : iB c ow B' (n + 1) := by
    rcases e8 with rfl | ⟨ci, rfl⟩
    · exact hB.next
    · exact hB.exc
  refine ⟨td, lw, rw', bf, kp, st', ln, rd', rl', rn', ms', sc', mc', fa', pm', xl', pc', rt, ra, ch', ow, ou', B', nS, nN, nL, sgA, ntA, lkA, F, tp, wk, im, lm, rfl, ⟨hT.1, hT.2.1.mono hm, hT.2.2⟩, ⟨?_, hL.2.mono hm⟩, ?_, ?_, ?_, hs, ?_, ?_, hB'⟩
  · obtain ⟨k, k1, k2⟩ := hL.1
    exact ⟨k, k1, by rw [e2 19 (by omega)]; exact k2⟩
  · obtain ⟨⟨a1, a2, a3, a4⟩, a5, a6, a7, a8, a9, a10, a11⟩ := hN
    unfold iN
    rw [e2 1 (by omega), e2 3 (by omega), e2 33 (by omega), e2 34 (by omega), e2 35 (by omega), e2 36 (by omega), e6 11 (by omega), e6 12 (by omega), e6 13 (by omega), e6 15 (by omega), e6 16 (by omega), e6 17 (by omega), e3, e4 3 (by omega)]
    exact ⟨⟨a1, a2, a3, a4⟩, a5, a6, a7, a8, a9, e5⟩
  · rw [e1]; exact hC.kept (e7 12 (by omega)) (by omega)
  · unfold bkO; rw [e4 0 (by omega)]; exact hb
  · intro r hr
    obtain ⟨x, q1, q2⟩ := hp r hr
    obtain ⟨y, q3, q4, q5⟩ := hs.1 _ _ _ q1
    have : x = y := by unfold aCh at q3; omega
    exact ⟨x, q1, q2.kept (e7 x (by omega)) (by omega)⟩
  · intro i hi'
    obtain ⟨⟨x, q1, q2⟩, wi, w1, w2, w3, w4⟩ := hi i hi'
    refine ⟨⟨x, q1, ?_⟩, wi, w1, w2, by rw [e4 2 (by omega)]; exact w3, fun r hr => ?_⟩
    · obtain ⟨y, q3, q4, q5⟩ := hs.1 _ _ _ q1
      have : x = y := by unfold aCh at q3; omega
      exact q2.kept (e7 x (by omega)) (by omega)
    · obtain ⟨x, q1, q2⟩ := w4 r hr
      obtain ⟨y, q3, q4, q5⟩ := hs.1 _ _ _ q1
      have : x = y := by unfold aCh at q3; omega
      exact ⟨x, q1, q2.kept (e7 x (by omega)) (by omega)⟩
/-- what a case of the law owes: the component's answer, the reference's, and that they agree -/
def qI (c n : Nat) (C : Option (Int32 × gS)) (M : gS → Option (Int32 × gS)) : Prop := ∃ code b S1 S2, C = some (code, S1) ∧ M S1 = some (b, S2) ∧ oIs [3] (some (aM c)) S1 = true ∧ oIs [3] (some (aM c)) S2 = true ∧ fX6_thrown (some (aM c)) S2 = some code ∧ (code = 0 → ∃ x, oLdL (some (aOu c)) 0 S2 = some x ∧ lg_cmp x b.toInt64 = 0) ∧ inv (n + 1) S2 c
def qL (c n : Nat) (C : Option (Int32 × gS)) (M : gS → Option (Int64 × gS)) : Prop := ∃ code b S1 S2, C = some (code, S1) ∧ M S1 = some (b, S2) ∧ oIs [3] (some (aM c)) S1 = true ∧ oIs [3] (some (aM c)) S2 = true ∧ fX6_thrown (some (aM c)) S2 = some code ∧ (code = 0 → ∃ x, oLdL (some (aOu c)) 0 S2 = some x ∧ lg_cmp x b = 0) ∧ inv (n + 1) S2 c
theorem zis3 : oIs [3] (some (aM c)) (zS c td lw rw bf kp st ln rd rl rn ms sc mc fa pm xl pc rt ra ch ow ou B) = true := (is_of cl_aM).trans rfl
theorem zis0 : oIs [0] (some (aV c)) (zS c td lw rw bf kp st ln rd rl rn ms sc mc fa pm xl pc rt ra ch ow ou B) = true := (is_of cl_aV).trans rfl
theorem zou : oLdL (some (aOu c)) 0 (zS c td lw rw bf kp st ln rd rl rn ms sc mc fa pm xl pc rt ra ch ow ou B) = some (ou 0) := by
  unfold oLdL oArr gGet
  simp only [cl_aOu, if_true]
  exact if_neg (by decide)
theorem zthr : fX6_thrown (some (aM c)) (zS c td lw rw bf kp st ln rd rl rn ms sc mc fa pm xl pc rt ra ch ow ou B) = some (pm 0) := by
  unfold fX6_thrown
  rw [gm_0]
theorem lg_refl (x : Int64) : lg_cmp x x = 0 := by
  unfold lg_cmp
  simp
theorem qI_ok {C : Option (Int32 × gS)} {M : gS → Option (Int32 × gS)} {v : Int32} {S1 : gS} (h1 : C = some (iv 0, S1)) (h0 : oIs [3] (some (aM c)) S1 = true) (h2 : M S1 = some (v, (zS c td lw rw bf kp st ln rd rl rn ms sc mc fa pm xl pc rt ra ch ow ou B))) (h3 : pm 0 = iv 0) (h4 : ou 0 = v.toInt64) (h5 : inv (n + 1) (zS c td lw rw bf kp st ln rd rl rn ms sc mc fa pm xl pc rt ra ch ow ou B) c) : qI c n C M :=
  ⟨iv 0, v, S1, _, h1, h2, h0, zis3, by rw [zthr, h3], fun _ => ⟨v.toInt64, by rw [← h4]; exact zou, lg_refl _⟩, h5⟩
theorem qL_ok {C : Option (Int32 × gS)} {M : gS → Option (Int64 × gS)} {v : Int64} {S1 : gS} (h1 : C = some (iv 0, S1)) (h0 : oIs [3] (some (aM c)) S1 = true) (h2 : M S1 = some (v, (zS c td lw rw bf kp st ln rd rl rn ms sc mc fa pm xl pc rt ra ch ow ou B))) (h3 : pm 0 = iv 0) (h4 : ou 0 = v) (h5 : inv (n + 1) (zS c td lw rw bf kp st ln rd rl rn ms sc mc fa pm xl pc rt ra ch ow ou B) c) : qL c n C M :=
  ⟨iv 0, v, S1, _, h1, h2, h0, zis3, by rw [zthr, h3], fun _ => ⟨v, by rw [← h4]; exact zou, lg_refl _⟩, h5⟩
theorem qI_no {C : Option (Int32 × gS)} {M : gS → Option (Int32 × gS)} {v : Int32} {k : Nat} {S1 : gS} (hk : k = 1 ∨ k = 2) (h1 : C = some (iv k, S1)) (h0 : oIs [3] (some (aM c)) S1 = true) (h2 : M S1 = some (v, (zS c td lw rw bf kp st ln rd rl rn ms sc mc fa pm xl pc rt ra ch ow ou B))) (h3 : pm 0 = iv k) (h5 : inv (n + 1) (zS c td lw rw bf kp st ln rd rl rn ms sc mc fa pm xl pc rt ra ch ow ou B) c) : qI c n C M :=
  ⟨iv k, v, S1, _, h1, h2, h0, zis3, by rw [zthr, h3], fun h => absurd h (by rcases hk with rfl | rfl <;> decide), h5⟩
theorem qL_no {C : Option (Int32 × gS)} {M : gS → Option (Int64 × gS)} {v : Int64} {k : Nat} {S1 : gS} (hk : k = 1 ∨ k = 2) (h1 : C = some (iv k, S1)) (h0 : oIs [3] (some (aM c)) S1 = true) (h2 : M S1 = some (v, (zS c td lw rw bf kp st ln rd rl rn ms sc mc fa pm xl pc rt ra ch ow ou B))) (h3 : pm 0 = iv k) (h5 : inv (n + 1) (zS c td lw rw bf kp st ln rd rl rn ms sc mc fa pm xl pc rt ra ch ow ou B) c) : qL c n C M :=
  ⟨iv k, v, S1, _, h1, h2, h0, zis3, by rw [zthr, h3], fun h => absurd h (by rcases hk with rfl | rfl <;> decide), h5⟩
/-- the wrapper, when the component answers -/
theorem w_ok {o : Option ((Int32 ⊕ (Nat × Nat)) × gS)} {S0 : gS} {v : Int32} {H : Nat → Nat → gS → Option (Int32 × gS)} (h0 : oIs [0] (some (aV c)) S0 = true) (h : o = some (.inl v, (zS c td lw rw bf kp st ln rd rl rn ms sc mc fa pm xl pc rt ra ch ow ou B))) : gC (gV [0] (some (aV c)) S0 o) (fun x1 S2 => (oStL (some (aOu c)) (0 : Int32) x1.toInt64 S2).bind fun S3 => some ((0 : Int32), S3)) H = some (iv 0, (zS c td lw rw bf kp st ln rd rl rn ms sc mc fa pm xl pc rt ra ch ow (va_up ou 0 v.toInt64) B)) := by
  unfold gV
  rw [if_pos h0, h]
  show (oStL (some (aOu c)) (0 : Int32) v.toInt64 (zS c td lw rw bf kp st ln rd rl rn ms sc mc fa pm xl pc rt ra ch ow ou B)).bind _ = _
  simp (disch := first | assumption | omega | (simp (disch := omega) only [okx_iv', nx_iv, iv_add, L0, L1, L2, L3, L7, L8, L14, L21, L28, L35, L55, L56, *]; try omega)) only [L0, ↓st_aOu, iv_add, no_def, nx_iv, okx_iv', iv_le, iv_lt, iv_eq, iv_no, no_iv, Nat.not_lt_zero, Nat.le_refl, vu_same, vu_ne, vu_up, ↓reduceIte]
theorem wL_ok {o : Option ((Int64 ⊕ (Nat × Nat)) × gS)} {S0 : gS} {v : Int64} {H : Nat → Nat → gS → Option (Int32 × gS)} (h0 : oIs [0] (some (aV c)) S0 = true) (h : o = some (.inl v, (zS c td lw rw bf kp st ln rd rl rn ms sc mc fa pm xl pc rt ra ch ow ou B))) : gC (gV [0] (some (aV c)) S0 o) (fun x1 S2 => (oStL (some (aOu c)) (0 : Int32) x1 S2).bind fun S3 => some ((0 : Int32), S3)) H = some (iv 0, (zS c td lw rw bf kp st ln rd rl rn ms sc mc fa pm xl pc rt ra ch ow (va_up ou 0 v) B)) := by
  unfold gV
  rw [if_pos h0, h]
  show (oStL (some (aOu c)) (0 : Int32) v (zS c td lw rw bf kp st ln rd rl rn ms sc mc fa pm xl pc rt ra ch ow ou B)).bind _ = _
  simp (disch := first | assumption | omega | (simp (disch := omega) only [okx_iv', nx_iv, iv_add, L0, L1, L2, L3, L7, L8, L14, L21, L28, L35, L55, L56, *]; try omega)) only [L0, ↓st_aOu, iv_add, no_def, nx_iv, okx_iv', iv_le, iv_lt, iv_eq, iv_no, no_iv, Nat.not_lt_zero, Nat.le_refl, vu_same, vu_ne, vu_up, ↓reduceIte]
theorem w_no {α : Type} {o : Option ((α ⊕ (Nat × Nat)) × gS)} {S0 S1 : gS} {ci q : Nat} {K : α → gS → Option (Int32 × gS)} {H : Nat → Nat → gS → Option (Int32 × gS)} (h0 : oIs [0] (some (aV c)) S0 = true) (h : o = some (.inr (ci, q), S1)) : gC (gV [0] (some (aV c)) S0 o) K H = H ci q S1 := by
  unfold gV
  rw [if_pos h0, h]
  rfl
theorem rng (p : Int32) (b : Nat) (hb : b < 2147483648) : (∃ k, k ≤ b ∧ p = iv k) ∨ fX1_isIn p (iv 0) (iv b) = iv 0 := by
  rcases i32c p with h | ⟨k, hk, rfl⟩
  · exact Or.inr (isIn_neg h 0 (by decide) _)
  · by_cases h : k ≤ b
    · exact Or.inl ⟨k, h, rfl⟩
    · exact Or.inr (by rw [isIn_iv hk (by decide) hb, if_neg (by omega)])
theorem rng1 {k b : Nat} (h : k ≤ b) (hb : b < 2147483648) : fX1_isIn (iv k) (iv 0) (iv b) = iv 1 := by
  rw [isIn_iv (by omega) (by decide) hb, if_pos (by omega)]
theorem rngP (p : Int32) : (∃ k, k ≤ 1 ∧ p = iv k) ∨ (fX1_isPart p = iv 0 ∧ fX1_isIn p (iv 0) (iv 1) = iv 0) := by
  rcases i32c p with h | ⟨k, hk, rfl⟩
  · exact Or.inr ⟨isPart_neg h, isIn_neg h 0 (by decide) _⟩
  · by_cases h : k ≤ 1
    · exact Or.inl ⟨k, h, rfl⟩
    · exact Or.inr ⟨by rw [isPart_iv hk, if_neg h], by rw [isIn_iv hk (by decide) (by decide), if_neg (by omega)]⟩
theorem rngP1 {k : Nat} (h : k ≤ 1) : fX1_isPart (iv k) = iv 1 := by rw [isPart_iv (by omega), if_pos h]
theorem vow1 {S : gS} {k : Nat} (h : k ≤ 5) : fX1_isVowel (iv k) S = some (iv 1) := by
  unfold fX1_isVowel
  simp only [L0, L5, rng1 h (show 5 < 2147483648 by decide)]
  rfl
theorem vow0 {S : gS} {p : Int32} (h : fX1_isIn p (iv 0) (iv 5) = iv 0) : fX1_isVowel p S = some (iv 0) := by
  unfold fX1_isVowel
  simp only [L0, L5, h]
  rfl
theorem vow_eq : fX6_isVowel = fX1_isVowel := by
  funext p S
  unfold fX6_isVowel fX1_isVowel
  rw [in_eq]
end s32b
