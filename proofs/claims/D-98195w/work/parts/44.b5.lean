/-! PLAIN LAW 5: the model's shape; its steps of the law -/
/-- the model at t, its arrays behind it -/
def LT (M : gM) (t : Nat) : Prop :=
  kd M t = some (.inl 10) ∧
  (rv M t 1 = some (t + 1) ∧ rv M t 2 = some (t + 2) ∧ rv M t 3 = some (t + 3) ∧ rv M t 4 = some (t + 4) ∧ rv M t 7 = some (t + 5) ∧ rv M t 14 = some (t + 6) ∧ rv M t 16 = some (t + 7) ∧ rv M t 24 = some (t + 8) ∧ rv M t 25 = some (t + 9) ∧ rv M t 27 = some (t + 10) ∧ rv M t 28 = some (t + 11) ∧ rv M t 31 = some (t + 12) ∧ rv M t 32 = some (t + 13) ∧ rv M t 33 = some (t + 14) ∧ rv M t 34 = some (t + 15) ∧ rv M t 35 = some (t + 16) ∧ rv M t 37 = some (t + 17) ∧ rv M t 38 = some (t + 18)) ∧
  (kd M (t + 1) = some (.inr (0, 2093)) ∧ kd M (t + 2) = some (.inr (0, 1244)) ∧ kd M (t + 3) = some (.inr (0, 1244)) ∧ kd M (t + 4) = some (.inr (0, 4740)) ∧ kd M (t + 5) = some (.inr (1, 400)) ∧ kd M (t + 6) = some (.inr (0, 5)) ∧ kd M (t + 7) = some (.inr (0, 400)) ∧ kd M (t + 8) = some (.inr (0, 300)) ∧ kd M (t + 9) = some (.inr (1, 29700)) ∧ kd M (t + 10) = some (.inr (0, 300)) ∧ kd M (t + 11) = some (.inr (0, 300)) ∧ kd M (t + 12) = some (.inr (0, 24)) ∧ kd M (t + 13) = some (.inr (0, 300)) ∧ kd M (t + 14) = some (.inr (0, 2408)) ∧ kd M (t + 15) = some (.inr (0, 2408)) ∧ kd M (t + 16) = some (.inr (0, 2408)) ∧ kd M (t + 17) = some (.inr (0, 6)) ∧ kd M (t + 18) = some (.inr (0, 6)))
theorem LT.sm {W : List Nat} {M M' : gM} {t : Nat} (h : LT M t) (g : sm W M M') : LT M' t := by
  unfold LT
  rw [g.1, g.2.1]
  exact h
section LTA
variable {M : gM} {t : Nat}
theorem LT.k (h : LT M t) : kd M t = some (.inl 10) := h.1
theorem LT.r1 (h : LT M t) : rv M t 1 = some (t + 1) := h.2.1.1
theorem LT.r2 (h : LT M t) : rv M t 2 = some (t + 2) := h.2.1.2.1
theorem LT.r3 (h : LT M t) : rv M t 3 = some (t + 3) := h.2.1.2.2.1
theorem LT.r4 (h : LT M t) : rv M t 4 = some (t + 4) := h.2.1.2.2.2.1
theorem LT.r7 (h : LT M t) : rv M t 7 = some (t + 5) := h.2.1.2.2.2.2.1
theorem LT.r14 (h : LT M t) : rv M t 14 = some (t + 6) := h.2.1.2.2.2.2.2.1
theorem LT.r16 (h : LT M t) : rv M t 16 = some (t + 7) := h.2.1.2.2.2.2.2.2.1
theorem LT.r24 (h : LT M t) : rv M t 24 = some (t + 8) := h.2.1.2.2.2.2.2.2.2.1
theorem LT.r25 (h : LT M t) : rv M t 25 = some (t + 9) := h.2.1.2.2.2.2.2.2.2.2.1
theorem LT.r27 (h : LT M t) : rv M t 27 = some (t + 10) := h.2.1.2.2.2.2.2.2.2.2.2.1
theorem LT.r28 (h : LT M t) : rv M t 28 = some (t + 11) := h.2.1.2.2.2.2.2.2.2.2.2.2.1
theorem LT.r31 (h : LT M t) : rv M t 31 = some (t + 12) := h.2.1.2.2.2.2.2.2.2.2.2.2.2.1
theorem LT.r32 (h : LT M t) : rv M t 32 = some (t + 13) := h.2.1.2.2.2.2.2.2.2.2.2.2.2.2.1
theorem LT.r33 (h : LT M t) : rv M t 33 = some (t + 14) := h.2.1.2.2.2.2.2.2.2.2.2.2.2.2.2.1
theorem LT.r34 (h : LT M t) : rv M t 34 = some (t + 15) := h.2.1.2.2.2.2.2.2.2.2.2.2.2.2.2.2.1
theorem LT.r35 (h : LT M t) : rv M t 35 = some (t + 16) := h.2.1.2.2.2.2.2.2.2.2.2.2.2.2.2.2.2.1
theorem LT.r37 (h : LT M t) : rv M t 37 = some (t + 17) := h.2.1.2.2.2.2.2.2.2.2.2.2.2.2.2.2.2.2.1
theorem LT.r38 (h : LT M t) : rv M t 38 = some (t + 18) := h.2.1.2.2.2.2.2.2.2.2.2.2.2.2.2.2.2.2.2
theorem LT.k1 (h : LT M t) : kd M (t + 1) = some (.inr (0, 2093)) := h.2.2.1
theorem LT.k2 (h : LT M t) : kd M (t + 2) = some (.inr (0, 1244)) := h.2.2.2.1
theorem LT.k3 (h : LT M t) : kd M (t + 3) = some (.inr (0, 1244)) := h.2.2.2.2.1
theorem LT.k4 (h : LT M t) : kd M (t + 4) = some (.inr (0, 4740)) := h.2.2.2.2.2.1
theorem LT.k5 (h : LT M t) : kd M (t + 5) = some (.inr (1, 400)) := h.2.2.2.2.2.2.1
theorem LT.k6 (h : LT M t) : kd M (t + 6) = some (.inr (0, 5)) := h.2.2.2.2.2.2.2.1
theorem LT.k7 (h : LT M t) : kd M (t + 7) = some (.inr (0, 400)) := h.2.2.2.2.2.2.2.2.1
theorem LT.k8 (h : LT M t) : kd M (t + 8) = some (.inr (0, 300)) := h.2.2.2.2.2.2.2.2.2.1
theorem LT.k9 (h : LT M t) : kd M (t + 9) = some (.inr (1, 29700)) := h.2.2.2.2.2.2.2.2.2.2.1
theorem LT.k10 (h : LT M t) : kd M (t + 10) = some (.inr (0, 300)) := h.2.2.2.2.2.2.2.2.2.2.2.1
theorem LT.k11 (h : LT M t) : kd M (t + 11) = some (.inr (0, 300)) := h.2.2.2.2.2.2.2.2.2.2.2.2.1
theorem LT.k12 (h : LT M t) : kd M (t + 12) = some (.inr (0, 24)) := h.2.2.2.2.2.2.2.2.2.2.2.2.2.1
theorem LT.k13 (h : LT M t) : kd M (t + 13) = some (.inr (0, 300)) := h.2.2.2.2.2.2.2.2.2.2.2.2.2.2.1
theorem LT.k14 (h : LT M t) : kd M (t + 14) = some (.inr (0, 2408)) := h.2.2.2.2.2.2.2.2.2.2.2.2.2.2.2.1
theorem LT.k15 (h : LT M t) : kd M (t + 15) = some (.inr (0, 2408)) := h.2.2.2.2.2.2.2.2.2.2.2.2.2.2.2.2.1
theorem LT.k16 (h : LT M t) : kd M (t + 16) = some (.inr (0, 2408)) := h.2.2.2.2.2.2.2.2.2.2.2.2.2.2.2.2.2.1
theorem LT.k17 (h : LT M t) : kd M (t + 17) = some (.inr (0, 6)) := h.2.2.2.2.2.2.2.2.2.2.2.2.2.2.2.2.2.2.1
theorem LT.k18 (h : LT M t) : kd M (t + 18) = some (.inr (0, 6)) := h.2.2.2.2.2.2.2.2.2.2.2.2.2.2.2.2.2.2.2
end LTA
theorem nI_mul (a b : Nat) : nI a * nI b = nI (a * b) := (Int32.ofNat_mul a b).symm
theorem nI_lin (a b i : Nat) : nI a + nI b * nI i = nI (a + b * i) := by rw [nI_mul, nI_add]
/-- the machine of steps: how many lie, what lies -/
def up (v : Nat → Int32) (k : Nat) (x : Int32) : Nat → Int32 := fun j => if j = k then x else v j
def mFact (φ : Nat → Int32) (s n : Int32) : Int32 := if 0 ≤ s ∧ s < 10 then φ (ix s) else n
def mOp (s a b : Int32) : Int32 := if s = 11 then a + b else bI (if s = 12 then decide (a < b) else if s = 13 then decide (b < a) else if s = 15 then decide (a + b = 2) else decide (0 < a + b))
def mStp (c n : Nat → Int32) (φ : Nat → Int32) (i : Nat) (q : Nat × (Nat → Int32)) : Option (Nat × (Nat → Int32)) :=
  if c i ≤ 10 then some (q.1 + 1, up q.2 q.1 (mFact φ (c i) (n i)))
  else if c i = 14 then (if q.1 = 0 then none else some (q.1, up q.2 (q.1 - 1) (1 - q.2 (q.1 - 1))))
  else if q.1 < 2 then none else some (q.1 - 1, up q.2 (q.1 - 2) (mOp (c i) (q.2 (q.1 - 2)) (q.2 (q.1 - 1))))
def mRun (c n : Nat → Int32) (φ : Nat → Int32) : Nat → Nat → Nat × (Nat → Int32) → Option (Nat × (Nat → Int32))
  | 0, _, q => some q
  | d + 1, i, q => (mStp c n φ i q).bind (mRun c n φ d (i + 1))
theorem mRun_add (c n : Nat → Int32) (φ : Nat → Int32) (d e i : Nat) (q : Nat × (Nat → Int32)) : mRun c n φ (d + e) i q = (mRun c n φ d i q).bind (mRun c n φ e (i + d)) := by
  induction d generalizing i q with
  | zero => simp [mRun]
  | succ d ih =>
    rw [show d + 1 + e = (d + e) + 1 by omega]
    show (mStp c n φ i q).bind (mRun c n φ (d + e) (i + 1)) = ((mStp c n φ i q).bind (mRun c n φ d (i + 1))).bind _
    cases mStp c n φ i q with
    | none => rfl
    | some z =>
      show mRun c n φ (d + e) (i + 1) z = (mRun c n φ d (i + 1) z).bind _
      rw [ih, show i + 1 + d = i + (d + 1) by omega]
/-- the facts that the model looks at -/
def TF (M : gM) (t : Nat) (φ : Nat → Int32) : Prop :=
  iv M t 17 = φ 0 ∧ iv M t 18 = φ 1 ∧ iv M t 19 = φ 2 ∧ iv M t 20 = φ 4 ∧ iv M t 21 = φ 5 ∧ iv M t 22 = φ 6 ∧ iv M t 23 = φ 7 ∧ (∃ y, y < 300 ∧ φ 2 = nI y ∧ iv M (t + 8) y = φ 3) ∧
  φ 8 = bI (decide (φ 0 = 0 ∨ φ 0 = iv M (t + 1) 0 - 1)) ∧ φ 9 = bI (decide (φ 0 < iv M (t + 1) 12))
theorem TF.sm {M M' : gM} {t : Nat} {φ : Nat → Int32} {W : List Nat} (h : TF M t φ) (g : sm W M M') (h0 : t ∉ W) (h1 : t + 1 ∉ W) (h8 : t + 8 ∉ W) : TF M' t φ := by
  unfold TF
  rw [g.2.2.2.2 _ h0, g.2.2.2.2 _ h1, g.2.2.2.2 _ h8]
  exact h
theorem ix0 : ix 0 = 0 := by decide
theorem inL {M : gM} {a t n : Nat} (k : Nat) {v : Int32} (hv : nI k = v) (h : kd M a = some (.inr (t, n))) (hk : k < n) (hn : n < 2 ^ 31) : inA M a t v := hv ▸ inA_of h hk hn
theorem s_X10_factOf {M : gM} {t : Nat} {φ : Nat → Int32} {s n : Int32} {K : Int32 → gM → Prop} (hL : LT M t) (h : TF M t φ) (hk : K (mFact φ s n) M) : f_X10_factOf t s n M K := by
  obtain ⟨h0, h1, h2, h4, h5, h6, h7, ⟨y, hy, hy2, h3⟩, h8, h9⟩ := h
  unfold f_X10_factOf
  have sw : ∀ k : Nat, k < 10 → s = nI k → mFact φ s n = φ k := fun k hk e => by
    unfold mFact
    rw [e, ix_nI (by omega), if_pos ⟨nI_pos' (by omega), nI_lt (b := 10) hk (by omega)⟩]
  by_cases c0 : s = 0
  · rw [if_pos c0]; rw [sw 0 (by omega) c0, ← h0] at hk; exact ⟨hL.k, hk⟩
  rw [if_neg c0]
  by_cases c1 : s = 1
  · rw [if_pos c1]; rw [sw 1 (by omega) c1, ← h1] at hk; exact ⟨hL.k, hk⟩
  rw [if_neg c1]
  by_cases c2 : s = 2
  · rw [if_pos c2]; rw [sw 2 (by omega) c2, ← h2] at hk; exact ⟨hL.k, hk⟩
  rw [if_neg c2]
  by_cases c3 : s = 3
  · rw [if_pos c3]
    rw [sw 3 (by omega) c3, ← h3] at hk
    refine ⟨hL.k, _, hL.r24, ?_, ?_⟩
    · rw [h2, hy2]; exact inA_of hL.k8 hy (by omega)
    · rw [h2, hy2, ix_nI (by omega)]; exact hk
  rw [if_neg c3]
  by_cases c4 : s = 4
  · rw [if_pos c4]; rw [sw 4 (by omega) c4, ← h4] at hk; exact ⟨hL.k, hk⟩
  rw [if_neg c4]
  by_cases c5 : s = 5
  · rw [if_pos c5]; rw [sw 5 (by omega) c5, ← h5] at hk; exact ⟨hL.k, hk⟩
  rw [if_neg c5]
  by_cases c6 : s = 6
  · rw [if_pos c6]; rw [sw 6 (by omega) c6, ← h6] at hk; exact ⟨hL.k, hk⟩
  rw [if_neg c6]
  by_cases c7 : s = 7
  · rw [if_pos c7]; rw [sw 7 (by omega) c7, ← h7] at hk; exact ⟨hL.k, hk⟩
  rw [if_neg c7]
  by_cases c8 : s = 8
  · rw [if_pos c8]
    rw [sw 8 (by omega) c8, h8, ← h0] at hk
    refine ⟨hL.k, ?_⟩
    by_cases e : iv M t 17 = 0
    · rw [if_pos e]; rw [decide_eq_true (Or.inl e)] at hk; exact hk
    · rw [if_neg e]
      unfold f_X10_lanes
      refine ⟨hL.k, _, hL.r1, inL 0 rfl hL.k1 (by omega) (by omega), ?_⟩
      rw [ix0]
      dsimp only
      by_cases e2 : iv M t 17 = iv M (t + 1) 0 - 1
      · rw [if_pos e2]; rw [decide_eq_true (Or.inr e2)] at hk; exact hk
      · rw [if_neg e2]; rw [decide_eq_false (fun q => q.elim e e2)] at hk; exact hk
  rw [if_neg c8]
  by_cases c9 : s = 9
  · rw [if_pos c9]
    rw [sw 9 (by omega) c9, h9, ← h0] at hk
    refine ⟨hL.k, _, hL.r1, inL 12 rfl hL.k1 (by omega) (by omega), ?_⟩
    rw [show ix 12 = 12 by decide]
    split
    · rename_i e; rw [decide_eq_false (i32_nlt.mpr e)] at hk; exact hk
    · rename_i e; rw [decide_eq_true (i32_nle.mp e)] at hk; exact hk
  rw [if_neg c9]
  have : mFact φ s n = n := by
    unfold mFact
    refine if_neg fun q => ?_
    obtain ⟨k, hk, e⟩ := nat_of (n := 10) (by omega) q.1 q.2
    rcases (show k = 0 ∨ k = 1 ∨ k = 2 ∨ k = 3 ∨ k = 4 ∨ k = 5 ∨ k = 6 ∨ k = 7 ∨ k = 8 ∨ k = 9 by omega) with rfl | rfl | rfl | rfl | rfl | rfl | rfl | rfl | rfl | rfl <;> contradiction
  rwa [this] at hk
/-- line a of the law, of the row w from TEXT on, holds where p does -/
def LnT (w : Nat → Int32) (a : Nat) (p : gCond) : Prop :=
  ∃ i j, w (398 + 4 * a) = nI i ∧ w (399 + 4 * a) = nI j ∧ i ≤ j ∧ j ≤ 400 ∧
    ∀ φ, (i = j ∧ p φ = true) ∨ ∀ v, ∃ v', mRun (fun k => w (444 + 2 * k)) (fun k => w (445 + 2 * k)) φ (j - i) i (0, v) = some (1, v') ∧ v' 0 = bI (p φ)
theorem i32_cases (s : Int32) (h : ¬ s ≤ 10) : 10 < s := i32_nle.mp h
theorem s_X10_holdsLine {M : gM} {t a : Nat} {φ : Nat → Int32} {p : gCond} {K : Int32 → gM → Prop} (hL : LT M t) (ha : a < 12) (hF : TF M t φ) (hp : LnT (iv M (t + 1)) a p) (hk : ∀ M', sm [t + 7] M M' → K (bI (p φ)) M') : f_X10_holdsLine t (nI a) M K := by
  obtain ⟨i0, j0, hi, hj, hij, hj4, hrun⟩ := hp
  have hrun := hrun φ
  intro P20 P218 h20 h218
  have eb : (396 : Int32) + (4 : Int32) * nI a = nI (396 + 4 * a) := nI_lin 396 4 a
  have e2 : nI (396 + 4 * a) + 2 = nI (398 + 4 * a) := by rw [show (2 : Int32) = nI 2 from rfl, nI_add]; congr 1; omega
  have e3 : nI (396 + 4 * a) + 3 = nI (399 + 4 * a) := by rw [show (3 : Int32) = nI 3 from rfl, nI_add]; congr 1; omega
  refine ⟨hL.k, _, hL.r1, ?_, ?_⟩
  · rw [eb, e2]; exact inA_of hL.k1 (by omega) (by omega)
  rw [eb, e2, ix_nI (by omega), hi]
  have key : ∀ d i M1 top v, i + d = j0 → top + d ≤ 400 → sm [t + 7] M M1 → (∀ k, k < top → iv M1 (t + 7) k = v k) →
      ((d = 0 ∧ top = 0 ∧ p φ = true) ∨ ∃ v', mRun (fun k => iv M (t + 1) (444 + 2 * k)) (fun k => iv M (t + 1) (445 + 2 * k)) φ d i (top, v) = some (1, v') ∧ v' 0 = bI (p φ)) →
      P20 t (nI top) (nI (396 + 4 * a)) (nI i) M1 := by
    intro d
    induction d with
    | zero =>
      intro i M1 top v hid ht hsm hv hr
      have hL1 := hL.sm hsm
      have ew : iv M1 (t + 1) = iv M (t + 1) := hsm.2.2.2.2 _ (by simp)
      apply h20
      refine ⟨hL1.k, _, hL1.r1, ?_, ?_⟩
      · rw [e3]; exact inA_of hL1.k1 (by omega) (by omega)
      rw [e3, ix_nI (by omega), ew, hj, if_pos (nI_le (by omega) (by omega))]
      rcases hr with ⟨-, rfl, hp⟩ | ⟨v', hr, hv'⟩
      · rw [if_pos (show nI 0 = 0 from rfl)]
        have := hk M1 hsm
        rwa [hp] at this
      · unfold mRun at hr
        injection hr with hr
        injection hr with h1 h2
        subst h1 h2
        rw [if_neg (by decide)]
        refine ⟨_, hL1.r16, inL 0 rfl hL1.k7 (by omega) (by omega), ?_⟩
        rw [ix0, hv 0 (by omega), hv']
        have := hk M1 hsm
        cases hb : p φ <;> rw [hb] at this
        · rw [if_neg (by decide)]; exact this
        · rw [if_pos (by decide)]; exact this
    | succ d ih =>
      intro i M1 top v hid ht hsm hv hr
      have hL1 := hL.sm hsm
      have hF1 := hF.sm hsm (by simp) (by simp) (by simp)
      have ew : iv M1 (t + 1) = iv M (t + 1) := hsm.2.2.2.2 _ (by simp)
      have c1 : (444 : Int32) + (2 : Int32) * nI i = nI (444 + 2 * i) := nI_lin 444 2 i
      have c2 : nI (444 + 2 * i) + 1 = nI (445 + 2 * i) := by rw [nI_1]; congr 1; omega
      rcases hr with ⟨h, -⟩ | ⟨v', hr, hv'⟩
      · omega
      unfold mRun mStp at hr
      apply h20
      refine ⟨hL1.k, _, hL1.r1, ?_, ?_⟩
      · rw [e3]; exact inA_of hL1.k1 (by omega) (by omega)
      rw [e3, ix_nI (by omega), ew, hj, if_neg (nI_ge (by omega) (by omega))]
      refine ⟨_, hL1.r1, by rw [c1]; exact inA_of hL1.k1 (by omega) (by omega), ?_⟩
      rw [c1, ix_nI (by omega), ew]
      dsimp only at hr
      by_cases g10 : iv M (t + 1) (444 + 2 * i) ≤ 10
      · rw [if_pos g10] at hr
        rw [if_neg (i32_nlt.mpr g10)]
        refine ⟨_, hL1.r16, _, hL1.r1, by rw [c2]; exact inA_of hL1.k1 (by omega) (by omega), ?_⟩
        rw [c2, ix_nI (by omega), ew]
        refine s_X10_factOf hL1 hF1 ⟨inA_of hL1.k7 (by omega) (by omega), fun M48 e48 => ?_⟩
        rw [ix_nI (by omega)] at e48
        rw [nI_1, nI_1]
        subst e48
        refine ih (i + 1) _ (top + 1) _ (by omega) (by omega) (hsm.tr (sm.i (by simp))) (fun k hk9 => ?_) (Or.inr ⟨v', hr, hv'⟩)
        by_cases hkt : k = top
        · rw [hkt, iv_sIe]; exact (if_pos rfl).symm
        · rw [iv_sIk hkt, hv k (by omega)]; exact (if_neg hkt).symm
      · rw [if_neg g10] at hr
        rw [if_pos (i32_nle.mp g10)]
        by_cases g14 : iv M (t + 1) (444 + 2 * i) = 14
        · rw [if_pos g14] at hr
          rw [if_pos g14]
          by_cases h0 : top = 0
          · rw [if_pos h0] at hr; cases hr
          rw [if_neg h0] at hr
          obtain ⟨tp, rfl⟩ : ∃ tp, top = tp + 1 := ⟨top - 1, by omega⟩
          have em : nI (tp + 1) - 1 = nI tp := nI_pred tp
          refine ⟨_, hL1.r16, _, hL1.r16, by rw [em]; exact inA_of hL1.k7 (by omega) (by omega), by rw [em]; exact inA_of hL1.k7 (by omega) (by omega), fun M39 e39 => ?_⟩
          rw [em, ix_nI (by omega), hv tp (by omega)] at e39
          rw [nI_1]
          subst e39
          refine ih (i + 1) _ (tp + 1) _ (by omega) (by omega) (hsm.tr (sm.i (by simp))) (fun k hk9 => ?_) (Or.inr ⟨v', hr, hv'⟩)
          by_cases hkt : k = tp
          · rw [hkt, iv_sIe]; exact (if_pos rfl).symm
          · rw [iv_sIk hkt, hv k (by omega)]; exact (if_neg hkt).symm
        · rw [if_neg g14] at hr
          rw [if_neg g14]
          by_cases h0 : top < 2
          · rw [if_pos h0] at hr; cases hr
          rw [if_neg h0] at hr
          obtain ⟨tp, rfl⟩ : ∃ tp, top = tp + 2 := ⟨top - 2, by omega⟩
          have em : nI (tp + 2) + (-1) = nI (tp + 1) := by rw [← Int32.sub_eq_add_neg]; exact nI_pred (tp + 1)
          have em2 : nI (tp + 1) - 1 = nI tp := nI_pred tp
          rw [em, em2]
          refine ⟨_, hL1.r16, inA_of hL1.k7 (by omega) (by omega), _, hL1.r16, inA_of hL1.k7 (by omega) (by omega), ?_⟩
          rw [ix_nI (by omega), ix_nI (by omega), hv tp (by omega), hv (tp + 1) (by omega)]
          have fin : ∀ b : Bool, (iv M (t + 1) (444 + 2 * i) ≠ 11 → mOp (iv M (t + 1) (444 + 2 * i)) (v tp) (v (tp + 1)) = bI b) → P218 t (nI (tp + 1)) (nI (396 + 4 * a)) (nI i) (iv M (t + 1) (444 + 2 * i)) (v tp) (v (tp + 1)) (bI b) M1 := by
            intro b hb
            apply h218
            refine ⟨hL1.k, _, hL1.r16, ?_⟩
            rw [em2, nI_1, ix_nI (by omega)]
            have go : ∀ x, x = mOp (iv M (t + 1) (444 + 2 * i)) (v tp) (v (tp + 1)) → P20 t (nI (tp + 1)) (nI (396 + 4 * a)) (nI (i + 1)) (sI M1 (t + 7) tp x) := by
              intro x hx
              refine ih (i + 1) _ (tp + 1) _ (by omega) (by omega) (hsm.tr (sm.i (by simp))) (fun k hk9 => ?_) (Or.inr ⟨v', hr, hv'⟩)
              by_cases hkt : k = tp
              · rw [hkt, iv_sIe, hx]; exact (if_pos rfl).symm
              · rw [iv_sIk hkt, hv k (by omega)]; exact (if_neg hkt).symm
            split
            · rename_i g
              refine ⟨inA_of hL1.k7 (by omega) (by omega), fun M59 e59 => ?_⟩
              subst e59
              exact go _ (by unfold mOp; rw [if_pos g])
            · rename_i g
              cases b with
              | false =>
                rw [if_pos (by decide)]
                refine ⟨inA_of hL1.k7 (by omega) (by omega), fun M59 e59 => ?_⟩
                subst e59
                exact go _ (hb g).symm
              | true =>
                rw [if_neg (by decide)]
                refine ⟨inA_of hL1.k7 (by omega) (by omega), fun M59 e59 => ?_⟩
                subst e59
                exact go _ (hb g).symm
          by_cases g12 : iv M (t + 1) (444 + 2 * i) = 12
          · rw [if_pos g12]
            split
            · rename_i g; exact fin false fun h => by unfold mOp; rw [if_neg h, if_pos g12, decide_eq_false (i32_nlt.mpr g)]
            · rename_i g; exact fin true fun h => by unfold mOp; rw [if_neg h, if_pos g12, decide_eq_true (i32_nle.mp g)]
          rw [if_neg g12]
          by_cases g13 : iv M (t + 1) (444 + 2 * i) = 13
          · rw [if_pos g13]
            split
            · rename_i g; exact fin false fun h => by unfold mOp; rw [if_neg h, if_neg g12, if_pos g13, decide_eq_false (i32_nlt.mpr g)]
            · rename_i g; exact fin true fun h => by unfold mOp; rw [if_neg h, if_neg g12, if_pos g13, decide_eq_true (i32_nle.mp g)]
          rw [if_neg g13]
          by_cases g15 : iv M (t + 1) (444 + 2 * i) = 15
          · rw [if_pos g15]
            split
            · rename_i g; exact fin true fun h => by unfold mOp; rw [if_neg h, if_neg g12, if_neg g13, if_pos g15, decide_eq_true g]
            · rename_i g; exact fin false fun h => by unfold mOp; rw [if_neg h, if_neg g12, if_neg g13, if_pos g15, decide_eq_false g]
          rw [if_neg g15]
          split
          · rename_i g; exact fin false fun h => by unfold mOp; rw [if_neg h, if_neg g12, if_neg g13, if_neg g15, decide_eq_false (i32_nlt.mpr g)]
          · rename_i g; exact fin true fun h => by unfold mOp; rw [if_neg h, if_neg g12, if_neg g13, if_neg g15, decide_eq_true (i32_nle.mp g)]
  refine key (j0 - i0) i0 M 0 (fun _ => 0) (by omega) (by omega) sm.rf (fun k hk9 => by omega) ?_
  rcases hrun with ⟨h1, h2⟩ | h
  · exact Or.inl ⟨by omega, rfl, h2⟩
  · exact Or.inr (h _)
