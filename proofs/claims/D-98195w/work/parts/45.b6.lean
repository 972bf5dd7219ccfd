/-! PLAIN LAW 6: the law on both sides; flows -/
def gExt (p : gCond) : Prop := ∀ φ ψ : Nat → Int32, (∀ k, k < 10 → φ k = ψ k) → p φ = p ψ
def mMany (w : Nat → Int32) : Nat := if w 8 = 1 then ix (w 395) else 0
/-- the law of the row, and what its lines say -/
def LwT (w : Nat → Int32) (p : Nat → gCond) : Prop :=
  (w 8 = 0 ∨ w 8 = 1) ∧ (w 8 = 1 → nb (w 395) 0 12) ∧ ∀ a, a < mMany w → (w (396 + 4 * a) = 0 ∨ w (396 + 4 * a) = 1 ∨ w (396 + 4 * a) = 2) ∧ nb (w (397 + 4 * a)) 0 20 ∧ LnT w a (p a) ∧ gExt (p a) ∧ (w (396 + 4 * a) = 2 → w (397 + 4 * a) = 1)
theorem mMany_le {w : Nat → Int32} {p : Nat → gCond} (h : LwT w p) : mMany w ≤ 12 := by
  unfold mMany
  split
  · rename_i g; exact (h.2.1 g).2.2
  · omega
/-- a line as an object -/
def LnC (M : gM) (L : Nat) (kind n : Int32) (p : gCond) : Prop :=
  ((kind = 0 ∧ kd M L = some (.inl 17) ∧ iv M L 1 = n) ∨ (kind = 1 ∧ kd M L = some (.inl 17) ∧ iv M L 1 = -n) ∨ (kind = 2 ∧ kd M L = some (.inl 18))) ∧
  ((rv M L 0 = none ∧ ∀ φ, p φ = true) ∨ ∃ c, rv M L 0 = some c ∧ CSm M 22 c p)
def LwC (M : gM) (s : Nat) (w : Nat → Int32) (p : Nat → gCond) : Prop :=
  iv M s 16 = (if w 8 = 1 then w 395 else -1) ∧ ∀ a, a < mMany w → ∃ L, rv M (s + 6) a = some L ∧ LnC M L (w (396 + 4 * a)) (w (397 + 4 * a)) (p a)
def mSumK (w : Nat → Int32) (p : Nat → gCond) (φ : Nat → Int32) (kind : Int32) : Nat → Int32
  | 0 => 0
  | a + 1 => mSumK w p φ kind a + (if w (396 + 4 * a) = kind ∧ p a φ = true then w (397 + 4 * a) else 0)
theorem s_X10_sumOf {M : gM} {t : Nat} {φ : Nat → Int32} {p : Nat → gCond} {kind : Int32} {K : Int32 → gM → Prop} (hL : LT M t) (hF : TF M t φ) (hT : LwT (iv M (t + 1)) p) (hk : ∀ M', sm [t + 7] M M' → K (mSumK (iv M (t + 1)) p φ kind (mMany (iv M (t + 1)))) M') : f_X10_sumOf t kind M K := by
  intro P hP
  have hm := mMany_le hT
  have key : ∀ d a M1, a + d = mMany (iv M (t + 1)) → sm [t + 7] M M1 → P t kind (mSumK (iv M (t + 1)) p φ kind a) (nI a) M1 := by
    intro d
    induction d with
    | zero =>
      intro a M1 had hsm
      have hL1 := hL.sm hsm
      have ew : iv M1 (t + 1) = iv M (t + 1) := hsm.2.2.2.2 _ (by simp)
      apply hP
      refine ⟨hL1.k, _, hL1.r1, inL 8 rfl hL1.k1 (by omega) (by omega), ?_⟩
      rw [show ix 8 = 8 by decide, ew]
      have hr := hk M1 hsm
      rw [← had] at hr
      split
      · rename_i g
        refine ⟨_, hL1.r1, inL 395 rfl hL1.k1 (by omega) (by omega), ?_⟩
        rw [show ix 395 = 395 by decide, ew, (hT.2.1 g).1]
        unfold mMany at had hm
        rw [if_pos g] at had hm
        rw [if_pos (nI_le (by omega) (by omega))]
        exact hr
      · exact hr
    | succ d ih =>
      intro a M1 had hsm
      have hL1 := hL.sm hsm
      have ew : iv M1 (t + 1) = iv M (t + 1) := hsm.2.2.2.2 _ (by simp)
      have g8 : iv M (t + 1) 8 = 1 := by
        unfold mMany at had
        split at had
        · assumption
        · omega
      have hma : mMany (iv M (t + 1)) = ix (iv M (t + 1) 395) := if_pos g8
      have c1 : (396 : Int32) + (4 : Int32) * nI a = nI (396 + 4 * a) := nI_lin 396 4 a
      have c2 : nI (396 + 4 * a) + 1 = nI (397 + 4 * a) := by rw [nI_1]; congr 1; omega
      have hl := hT.2.2 a (by omega)
      apply hP
      refine ⟨hL1.k, _, hL1.r1, inL 8 rfl hL1.k1 (by omega) (by omega), ?_⟩
      rw [show ix 8 = 8 by decide, ew, if_pos g8]
      refine ⟨_, hL1.r1, inL 395 rfl hL1.k1 (by omega) (by omega), ?_⟩
      rw [show ix 395 = 395 by decide, ew, (hT.2.1 g8).1, if_neg (nI_ge (by omega) (by omega))]
      refine ⟨_, hL1.r1, by rw [c1]; exact inA_of hL1.k1 (by omega) (by omega), ?_⟩
      rw [c1, ix_nI (by omega), ew]
      split
      · rename_i g
        refine s_X10_holdsLine hL1 (by omega) (hF.sm hsm (by simp) (by simp) (by simp)) (p := p a) (by rw [ew]; exact hl.2.2.1) fun M2 hsm2 => ?_
        have hsm2 := hsm.tr hsm2
        have hL2 := hL.sm hsm2
        have ew2 : iv M2 (t + 1) = iv M (t + 1) := hsm2.2.2.2.2 _ (by simp)
        have hi := ih (a + 1) M2 (by omega) hsm2
        unfold mSumK at hi
        rw [nI_1]
        cases hb : p a φ with
        | false =>
          rw [if_neg (by simp [hb])] at hi
          exact hi
        | true =>
          rw [if_pos ⟨g, hb⟩] at hi
          rw [if_neg (show ¬ bI true = 0 by decide)]
          refine ⟨hL2.k, _, hL2.r1, by rw [c2]; exact inA_of hL2.k1 (by omega) (by omega), fun x hx => ?_⟩
          rw [c2, ix_nI (by omega), ew2] at hx
          rw [hx]
          exact hi
      · rename_i g
        have hi := ih (a + 1) M1 (by omega) hsm
        unfold mSumK at hi
        rw [if_neg (fun q => g q.1)] at hi
        rw [nI_1]
        exact hi
  exact key (mMany (iv M (t + 1))) 0 M (by omega) sm.rf
/-- what the law looks at -/
def mPhi (w : Nat → Int32) (lane row : Int32) (Y : Nat) (sp pe age dp : Int32) : Nat → Int32
  | 0 => lane
  | 1 => row
  | 2 => nI Y
  | 3 => mHt (w 13) Y
  | 4 => sp
  | 5 => pe
  | 6 => age
  | 7 => dp
  | 8 => bI (decide (lane = 0 ∨ lane = w 0 - 1))
  | 9 => bI (decide (lane < w 12))
  | _ => 0
def mLim (z : Int32) : Int32 := if 0 < (if z < 30 then z else 30) then (if z < 30 then z else 30) else 0
def mFl (w : Nat → Int32) (p : Nat → gCond) (l r Y : Nat) : Int32 :=
  mLim (mSp w l (nI r) (ix (w 2)) + mSumK w p (mPhi w (nI l) (nI r) Y (mSp w l (nI r) (ix (w 2))) 0 0 0) 0 (mMany w) - mSumK w p (mPhi w (nI l) (nI r) Y (mSp w l (nI r) (ix (w 2))) 0 0 0) 1 (mMany w))
theorem mLim_nb (z : Int32) : nb (mLim z) 0 30 := by
  unfold mLim
  by_cases h : z < 30
  · rw [if_pos h]
    by_cases h0 : 0 < z
    · rw [if_pos h0]
      obtain ⟨k, hk, e⟩ := nat_of (n := 30) (by omega) (Int32.le_of_lt h0) h
      rw [e]
      exact nb_of (Nat.zero_le _) (by omega) (by omega)
    · rw [if_neg h0]; exact nb_of (k := 0) (by omega) (by omega) (by omega)
  · rw [if_neg h, if_pos (by decide)]
    exact nb_of (k := 30) (by omega) (by omega) (by omega)
theorem mFl_nb {w : Nat → Int32} {p : Nat → gCond} {l r Y : Nat} : nb (mFl w p l r Y) 0 30 := mLim_nb _
theorem s_X3_tells {M : gM} {s Y : Nat} {w : Nat → Int32} {lane row sp : Int32} {K : gM → Prop} (hL : LSt M s) (e0 : iv M s 9 = w 0) (e12 : iv M s 20 = w 12) (hH : Hts M (s + 8) (w 13)) (hY : Y < 300) (hk : ∀ M', sm [s + 9] M M' → (∀ k, k < 10 → iv M' (s + 9) k = mPhi w lane row Y sp 0 0 0 k) → K M') : f_X3_tells s lane row (nI Y) sp M K := by
  intro P hP
  have k9 := hL.1.2.2.2.2.2.2.2.2.2.2
  have r9 := hL.1.2.1.2.2.2.2.2.2.2.2
  have x0 : ix 0 = 0 := by decide
  have x1 : ix 1 = 1 := by decide
  have x2 : ix 2 = 2 := by decide
  have x3 : ix 3 = 3 := by decide
  have x4 : ix 4 = 4 := by decide
  have x5 : ix 5 = 5 := by decide
  have x6 : ix 6 = 6 := by decide
  have x7 : ix 7 = 7 := by decide
  have fin : ∀ (b : Bool) M9, b = decide (lane = 0 ∨ lane = w 0 - 1) → sm [s + 9] M M9 → (∀ k, k < 8 → iv M9 (s + 9) k = mPhi w lane row Y sp 0 0 0 k) → P s lane (bI b) 8 (s + 9) M9 := by
    intro b M9 hb hsm hv
    have hL9 := hL.sm hsm
    have k9 := hL9.1.2.2.2.2.2.2.2.2.2.2
    have r9 := hL9.1.2.1.2.2.2.2.2.2.2.2
    apply hP
    refine ⟨inL 8 rfl k9 (by omega) (by omega), fun M50 e50 => ?_⟩
    rw [show ix 8 = 8 by decide] at e50
    subst e50
    refine ⟨hL9.1.1, _, r9, ?_⟩
    have eS : iv (sI M9 (s + 9) 8 (bI b)) s 20 = w 12 := by rw [iv_sIa (by omega), hsm.2.2.2.2 _ (by simp), e12]
    rw [eS]
    have go : ∀ x, x = bI (decide (lane < w 12)) → K (sI (sI M9 (s + 9) 8 (bI b)) (s + 9) 9 x) := by
      intro x hx
      refine hk _ ((hsm.tr (sm.i (by simp))).tr (sm.i (by simp))) fun k hk9 => ?_
      by_cases h9 : k = 9
      · rw [h9, iv_sIe, hx]; rfl
      · rw [iv_sIk h9]
        by_cases h8 : k = 8
        · rw [h8, iv_sIe, hb]; rfl
        · rw [iv_sIk h8]; exact hv k (by omega)
    split
    · rename_i g
      refine ⟨inL 9 rfl k9 (by omega) (by omega), fun M56 e56 => ?_⟩
      rw [show ix 9 = 9 by decide] at e56
      subst e56
      exact go _ (by rw [decide_eq_false (i32_nlt.mpr g)]; rfl)
    · rename_i g
      refine ⟨inL 9 rfl k9 (by omega) (by omega), fun M58 e58 => ?_⟩
      rw [show ix 9 = 9 by decide] at e58
      subst e58
      exact go _ (by rw [decide_eq_true (i32_nle.mp g)]; rfl)
  refine ⟨hL.1.1, _, r9, inL 0 rfl k9 (by omega) (by omega), fun M5 h5 => ?_⟩
  subst h5
  refine ⟨hL.1.1, _, r9, inL 1 rfl k9 (by omega) (by omega), fun M10 h10 => ?_⟩
  subst h10
  refine ⟨hL.1.1, _, r9, inL 2 rfl k9 (by omega) (by omega), fun M15 h15 => ?_⟩
  subst h15
  refine ⟨hL.1.1, _, r9, _, hL.1.2.1.2.2.2.2.2.2.2.1, inA_of hL.1.2.2.2.2.2.2.2.2.2.1 hY (by omega), inL 3 rfl k9 (by omega) (by omega), fun M23 h23 => ?_⟩
  subst h23
  refine ⟨hL.1.1, _, r9, inL 4 rfl k9 (by omega) (by omega), fun M28 h28 => ?_⟩
  subst h28
  refine ⟨hL.1.1, _, r9, inL 5 rfl k9 (by omega) (by omega), fun M33 h33 => ?_⟩
  subst h33
  refine ⟨hL.1.1, _, r9, inL 6 rfl k9 (by omega) (by omega), fun M38 h38 => ?_⟩
  subst h38
  refine ⟨hL.1.1, _, r9, inL 7 rfl k9 (by omega) (by omega), fun M43 h43 => ?_⟩
  subst h43
  refine ⟨hL.1.1, _, r9, ?_⟩
  rw [x0, x1, x2, x3, x4, x5, x6, x7]
  have hv : ∀ k, k < 8 → iv (sI (sI (sI (sI (sI (sI (sI (sI M (s + 9) 0 lane) (s + 9) 1 row) (s + 9) 2 (nI Y)) (s + 9) 3 (iv (sI (sI (sI M (s + 9) 0 lane) (s + 9) 1 row) (s + 9) 2 (nI Y)) (s + 8) (ix (nI Y)))) (s + 9) 4 sp) (s + 9) 5 0) (s + 9) 6 0) (s + 9) 7 0) (s + 9) k = mPhi w lane row Y sp 0 0 0 k := by
    intro k hk9
    have e3 : iv (sI (sI (sI M (s + 9) 0 lane) (s + 9) 1 row) (s + 9) 2 (nI Y)) (s + 8) (ix (nI Y)) = mHt (w 13) Y := by
      rw [iv_sIa (by omega), iv_sIa (by omega), iv_sIa (by omega), ix_nI (by omega), hH Y hY]
    rw [e3]
    rcases (show k = 0 ∨ k = 1 ∨ k = 2 ∨ k = 3 ∨ k = 4 ∨ k = 5 ∨ k = 6 ∨ k = 7 by omega) with rfl | rfl | rfl | rfl | rfl | rfl | rfl | rfl <;> simp [iv_sI, mPhi]
  have hs : sm [s + 9] M (sI (sI (sI (sI (sI (sI (sI (sI M (s + 9) 0 lane) (s + 9) 1 row) (s + 9) 2 (nI Y)) (s + 9) 3 (iv (sI (sI (sI M (s + 9) 0 lane) (s + 9) 1 row) (s + 9) 2 (nI Y)) (s + 8) (ix (nI Y)))) (s + 9) 4 sp) (s + 9) 5 0) (s + 9) 6 0) (s + 9) 7 0) :=
    (((((((sm.i (by simp)).tr (sm.i (by simp))).tr (sm.i (by simp))).tr (sm.i (by simp))).tr (sm.i (by simp))).tr (sm.i (by simp))).tr (sm.i (by simp))).tr (sm.i (by simp))
  generalize (sI (sI (sI (sI (sI (sI (sI (sI M (s + 9) 0 lane) (s + 9) 1 row) (s + 9) 2 (nI Y)) (s + 9) 3 (iv (sI (sI (sI M (s + 9) 0 lane) (s + 9) 1 row) (s + 9) 2 (nI Y)) (s + 8) (ix (nI Y)))) (s + 9) 4 sp) (s + 9) 5 0) (s + 9) 6 0) (s + 9) 7 0) = M9 at hv hs ⊢
  rw [hs.2.2.2.2 s (by simp), e0]
  split
  · rename_i g; exact fin true _ (decide_eq_true (Or.inl g)).symm hs hv
  · rename_i g
    split
    · rename_i g2; exact fin true _ (decide_eq_true (Or.inr g2)).symm hs hv
    · rename_i g2; exact fin false _ (decide_eq_false (fun q => q.elim g g2)).symm hs hv
