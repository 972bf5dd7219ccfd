/-! PLAIN LAW 4: conditions as objects -/
def mSum (f : Nat → Int32) (n0 : Int32) : Nat → Int32
  | 0 => n0
  | k + 1 => mSum f n0 k + f k
abbrev gCond : Type := (Nat → Int32) → Bool
def SumC (M : gM) (a : Nat) (u : (Nat → Int32) → Int32) : Prop := kd M a = some (.inl 13) ∧ ∃ t, rv M a 0 = some t ∧ kd M t = some (.inr (0, 8)) ∧ ∀ φ, u φ = mSum (fun k => iv M t k * φ k) (iv M a 1) 8
theorem s_X13_of {M : gM} {a fa : Nat} {u : (Nat → Int32) → Int32} {K : Int32 → gM → Prop} (h : SumC M a u) (hf : kd M fa = some (.inr (0, 10))) (hk : K (u (iv M fa)) M) : f_X13_of a fa M K := by
  intro P hP
  obtain ⟨h1, t, h2, h3, h4⟩ := h
  have key : ∀ d k, k + d = 8 → P a fa (mSum (fun k => iv M t k * iv M fa k) (iv M a 1) k) (nI k) M := by
    intro d
    induction d with
    | zero =>
      intro k hkd
      apply hP
      rw [if_pos (show (8 : Int32) ≤ nI k from nI_le (a := 8) (by omega) (by omega)), show k = 8 by omega, ← h4]
      exact hk
    | succ d ih =>
      intro k hkd
      apply hP
      rw [if_neg (show ¬ (8 : Int32) ≤ nI k from nI_ge (b := 8) (by omega) (by omega))]
      refine ⟨h1, t, h2, inA_of h3 (by omega) (by omega), inA_of hf (by omega) (by omega), ?_⟩
      rw [ix_nI (by omega), nI_1]
      exact ih (k + 1) (by omega)
  exact ⟨h1, key 8 0 (by omega)⟩
/-- all of a row, or some -/
def mCh (b : Bool) (q : Nat → Bool) : Nat → Bool
  | 0 => b
  | k + 1 => if b then mCh b q k && q k else mCh b q k || q k
theorem mCh_all {q : Nat → Bool} : ∀ m, mCh true q m = true ↔ ∀ j, j < m → q j = true := by
  intro m
  induction m with
  | zero => simp [mCh]
  | succ m ih =>
    simp only [mCh, if_true, Bool.and_eq_true, ih]
    exact ⟨fun h j hj => by rcases Nat.lt_or_ge j m with g | g; exact h.1 j g; rw [show j = m by omega]; exact h.2, fun h => ⟨fun j hj => h j (by omega), h m (by omega)⟩⟩
theorem mCh_some {q : Nat → Bool} : ∀ m, mCh false q m = true ↔ ∃ j, j < m ∧ q j = true := by
  intro m
  induction m with
  | zero => simp [mCh]
  | succ m ih =>
    simp only [mCh, Bool.false_eq_true, if_false, Bool.or_eq_true, ih]
    exact ⟨fun h => by rcases h with ⟨j, h1, h2⟩ | h; exact ⟨j, by omega, h2⟩; exact ⟨m, by omega, h⟩, fun ⟨j, h1, h2⟩ => by rcases Nat.lt_or_ge j m with g | g; exact Or.inl ⟨j, g, h2⟩; rw [show j = m by omega] at h2; exact Or.inr h2⟩
def bI (b : Bool) : Int32 := if b then 1 else 0
/-- a chain of conditions from c on: nodes, what each one says -/
def ChC (CS : Nat → gCond → Prop) (M : gM) (c : Nat) (p : gCond) : Prop :=
  ∃ (b : Bool) (m : Nat) (nd : Nat → Nat) (q : Nat → gCond), nd 0 = c ∧ (∀ j, j ≤ m → kd M (nd j) = some (.inl 11) ∧ iv M (nd j) 1 = bI b ∧ ∃ d, rv M (nd j) 0 = some d ∧ CS d (q j)) ∧ (∀ j, j < m → rv M (nd j) 2 = some (nd (j + 1))) ∧ rv M (nd m) 2 = none ∧ ∀ φ, p φ = mCh b (fun j => q j φ) (m + 1)
/-- an object that answers as the condition does -/
def CSm (M : gM) : Nat → Nat → gCond → Prop
  | 0 => fun _ _ => False
  | n + 1 => fun c p =>
    (kd M c = some (.inl 12) ∧ ∃ i, i < 10 ∧ iv M c 0 = nI i ∧ ∀ φ, p φ = !decide (φ i = 0)) ∨
    (kd M c = some (.inl 14) ∧ ∃ a b u v, rv M c 0 = some a ∧ rv M c 1 = some b ∧ SumC M a u ∧ SumC M b v ∧ ∀ φ, p φ = decide (u φ < v φ)) ∨
    (kd M c = some (.inl 15) ∧ ∃ d q, rv M c 0 = some d ∧ CSm M n d q ∧ ∀ φ, p φ = !q φ) ∨
    ChC (CSm M n) M c p
theorem s_X11_holds {M : gM} {fH : Nat → Nat → gM → (Int32 → gM → Prop) → Prop} {CS : Nat → gCond → Prop} {c fa : Nat} {p : gCond} {K : Int32 → gM → Prop} (hH : ∀ d q K', CS d q → K' (bI (q (iv M fa))) M → fH d fa M K') (h : ChC CS M c p) (hk : K (bI (p (iv M fa))) M) : f_X11_holds fH c fa M K := by
  intro P hP
  obtain ⟨b, m, nd, q, h0, h1, h2, h3, h4⟩ := h
  have a0 := h1 0 (by omega)
  rw [h0] at a0
  have key : ∀ d k, k + d = m → (∀ j, j < k → q j (iv M fa) = b) → P c fa (some (nd k)) M := by
    intro d
    induction d with
    | zero =>
      intro k hkd hq
      have ak := h1 k (by omega)
      obtain ⟨e, a3, a4⟩ := ak.2.2
      apply hP
      refine ⟨(fun q => nomatch q), fun b2 e2 => ?_⟩
      cases e2
      refine ⟨ak.1, e, a3, hH e _ _ a4 ⟨a0.1, ?_⟩⟩
      rw [a0.2.1]
      split
      · rename_i g
        have g : q k (iv M fa) = b := by revert g; cases b <;> cases q k (iv M fa) <;> decide
        refine ⟨ak.1, ?_⟩
        rw [show k = m by omega, h3]
        apply hP
        refine ⟨fun _ => ⟨a0.1, ?_, ?_⟩, fun _ q => nomatch q⟩
        · rw [a0.2.1]; cases b <;> decide
        · rw [a0.2.1]
          have : p (iv M fa) = b := by
            rw [h4]
            cases b with
            | true => exact (mCh_all _).mpr fun j hj => by rcases Nat.lt_or_ge j k with g9 | g9; exact hq j g9; rw [show j = k by omega]; exact g
            | false =>
              cases hc : mCh false (fun j => q j (iv M fa)) (m + 1) with
              | false => rfl
              | true =>
                obtain ⟨j, hj, hc⟩ := (mCh_some _).mp hc
                rcases Nat.lt_or_ge j k with g9 | g9
                · exact ((hq j g9).symm.trans hc).symm
                · rw [show j = k by omega] at hc; exact (g.symm.trans hc).symm
          rwa [this] at hk
      · rename_i g
        have g : q k (iv M fa) = !b := by revert g; cases b <;> cases q k (iv M fa) <;> decide
        have : p (iv M fa) = !b := by
          rw [h4]
          cases b with
          | false => exact (mCh_some _).mpr ⟨k, by omega, g⟩
          | true =>
            cases hc : mCh true (fun j => q j (iv M fa)) (m + 1) with
            | false => rfl
            | true =>
              have := (mCh_all _).mp hc k (by omega)
              exact this.symm.trans g
        rw [this] at hk
        cases b <;> exact hk
    | succ d ih =>
      intro k hkd hq
      have ak := h1 k (by omega)
      obtain ⟨e, a3, a4⟩ := ak.2.2
      apply hP
      refine ⟨(fun q => nomatch q), fun b2 e2 => ?_⟩
      cases e2
      refine ⟨ak.1, e, a3, hH e _ _ a4 ⟨a0.1, ?_⟩⟩
      rw [a0.2.1]
      split
      · rename_i g
        have g : q k (iv M fa) = b := by revert g; cases b <;> cases q k (iv M fa) <;> decide
        refine ⟨ak.1, ?_⟩
        rw [h2 k (by omega)]
        exact ih (k + 1) (by omega) fun j hj => by rcases Nat.lt_or_ge j k with g9 | g9; exact hq j g9; rw [show j = k by omega]; exact g
      · rename_i g
        have g : q k (iv M fa) = !b := by revert g; cases b <;> cases q k (iv M fa) <;> decide
        have : p (iv M fa) = !b := by
          rw [h4]
          cases b with
          | false => exact (mCh_some _).mpr ⟨k, by omega, g⟩
          | true =>
            cases hc : mCh true (fun j => q j (iv M fa)) (m + 1) with
            | false => rfl
            | true =>
              have := (mCh_all _).mp hc k (by omega)
              exact this.symm.trans g
        rw [this] at hk
        cases b <;> exact hk
  have := key m 0 (by omega) fun j hj => by omega
  rwa [h0] at this
theorem s_fx_holds {M : gM} {fa : Nat} (hf : kd M fa = some (.inr (0, 10))) : ∀ (n c : Nat) (p : gCond) (K : Int32 → gM → Prop), CSm M n c p → K (bI (p (iv M fa))) M → fx_holds n c fa M K := by
  intro n
  induction n with
  | zero => intro c p K h; exact h.elim
  | succ n ih =>
    intro c p K h hk
    rcases h with ⟨h, i, h1, h2, h3⟩ | ⟨h, a, b, u, v, h1, h2, h3, h4, h5⟩ | ⟨h, d, q, h1, h2, h3⟩ | h
    · refine Or.inr (Or.inl ⟨h, h, ?_, ?_⟩)
      · rw [h2]; exact inA_of hf h1 (by omega)
      · rw [h2, ix_nI (by omega)]
        rw [h3] at hk
        split
        · rename_i g; rw [g] at hk; exact hk
        · rename_i g; rw [decide_eq_false g] at hk; exact hk
    · refine Or.inr (Or.inr (Or.inl ⟨h, h, a, h1, h3.1, s_X13_of h3 hf ⟨h, b, h2, h4.1, s_X13_of h4 hf ?_⟩⟩))
      rw [h5] at hk
      split
      · rename_i g; rw [decide_eq_false (i32_nlt.mpr g)] at hk; exact hk
      · rename_i g; rw [decide_eq_true (i32_nle.mp g)] at hk; exact hk
    · refine Or.inr (Or.inr (Or.inr ⟨h, h, d, h1, ih d q _ h2 ?_⟩))
      rw [h3] at hk
      cases hq : q (iv M fa) <;> rw [hq] at hk <;> exact hk
    · obtain ⟨b, m, nd, q, h0, h1, -⟩ := id h
      have := (h1 0 (by omega)).1
      rw [h0] at this
      exact Or.inl ⟨this, s_X11_holds (fun d q K' h g => ih d q K' h g) h hk⟩
theorem CSm.mono {M : gM} : ∀ {n c : Nat} {p : gCond}, CSm M n c p → CSm M (n + 1) c p := by
  intro n
  induction n with
  | zero => intro c p h; exact h.elim
  | succ n ih =>
    intro c p h
    rcases h with h | h | ⟨h, d, q, h1, h2, h3⟩ | ⟨b, m, nd, q, h0, h1, h2⟩
    · exact Or.inl h
    · exact Or.inr (Or.inl h)
    · exact Or.inr (Or.inr (Or.inl ⟨h, d, q, h1, ih h2, h3⟩))
    · exact Or.inr (Or.inr (Or.inr ⟨b, m, nd, q, h0, fun j hj => by obtain ⟨a1, a2, d, a3, a4⟩ := h1 j hj; exact ⟨a1, a2, d, a3, ih a4⟩, h2⟩))
theorem CSm.le {M : gM} {n k c : Nat} {p : gCond} (h : CSm M n c p) (hk : n ≤ k) : CSm M k c p := by
  induction hk with
  | refl => exact h
  | step _ ih => exact ih.mono
/-- objects that lie at or above h0 are as they were -/
def kept (h0 : Nat) (M M' : gM) : Prop := ∀ a, h0 ≤ a → a < sz M → kd M' a = kd M a ∧ iv M' a = iv M a ∧ rv M' a = rv M a
