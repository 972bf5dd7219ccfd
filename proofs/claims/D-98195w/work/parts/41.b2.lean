/-! PLAIN LAW 2: bounds of the row; speed, floods, sinking -/
/-- a small number, as it is told -/
def nb (v : Int32) (lo hi : Nat) : Prop := v = nI (ix v) ∧ lo ≤ ix v ∧ ix v ≤ hi
theorem nb_of {k lo hi : Nat} (h1 : lo ≤ k) (h2 : k ≤ hi) (h3 : hi < 2 ^ 31) : nb (nI k) lo hi := by
  have e := ix_nI (k := k) (by omega)
  exact ⟨by rw [e], by rw [e]; exact h1, by rw [e]; exact h2⟩
/-- the row is in order, but for the law -/
def Wf (w : Nat → Int32) : Prop :=
  (nb (w 0) 1 6 ∧ nb (w 1) 10 99 ∧ nb (w 2) 0 8 ∧ nb (w 3) 0 8 ∧ nb (w 4) 0 24 ∧ nb (w 5) 0 8 ∧ nb (w 6) 0 6 ∧ nb (w 7) 0 12 ∧ nb (w 9) 0 299 ∧ nb (w 10) 0 98 ∧ nb (w 11) 0 9 ∧ nb (w 12) 0 6 ∧ nb (w 14) 0 24) ∧
  (∀ k, k < ix (w 2) → nb (w (15 + 7 * k)) 0 98 ∧ (∀ l, l < ix (w 0) → nb (w (16 + 7 * k + l)) 0 20) ∧ ∀ j, j < k → ix (w (15 + 7 * j)) < ix (w (15 + 7 * k))) ∧
  (∀ k, k < ix (w 5) → nb (w (72 + 3 * k)) 0 98 ∧ nb (w (73 + 3 * k)) 1 20) ∧
  (∀ k, k < ix (w 3) → nb (w (95 + 3 * k)) 0 5 ∧ ix (w (95 + 3 * k)) < ix (w 0) ∧ nb (w (96 + 3 * k)) 0 98 ∧ ix (w (96 + 3 * k)) < ix (w 1) ∧ (w (97 + 3 * k) = -1 ∨ (nb (w (97 + 3 * k)) 0 5 ∧ ix (w (97 + 3 * k)) < ix (w 0)))) ∧
  (∀ k, k < ix (w 4) → ((w (119 + 7 * k) = -1 ∧ w (120 + 7 * k) = -1) ∨ (nb (w (119 + 7 * k)) 0 7 ∧ nb (w (120 + 7 * k)) 0 7 ∧ ix (w (119 + 7 * k)) < ix (w 3) ∧ ix (w (120 + 7 * k)) < ix (w 3))) ∧
    nb (w (121 + 7 * k)) 0 5 ∧ ix (w (121 + 7 * k)) < ix (w 0) ∧ nb (w (122 + 7 * k)) 0 299 ∧ ix (w (122 + 7 * k)) ≤ ix (w 9) ∧ nb (w (123 + 7 * k)) 0 98 ∧ ix (w (123 + 7 * k)) < ix (w 1) ∧ (w (124 + 7 * k) = -1 ∨ nb (w (124 + 7 * k)) 0 7))
theorem Wf.cnt {w : Nat → Int32} (h : Wf w) : ix (w 2) ≤ 8 ∧ ix (w 3) ≤ 8 ∧ ix (w 4) ≤ 24 ∧ ix (w 5) ≤ 8 ∧ ix (w 6) ≤ 6 := ⟨h.1.2.2.1.2.2, h.1.2.2.2.1.2.2, h.1.2.2.2.2.1.2.2, h.1.2.2.2.2.2.1.2.2, h.1.2.2.2.2.2.2.1.2.2⟩
/-- speed of the ice: of the last section that begins at the row or ahead of it -/
def mSp (w : Nat → Int32) (l : Nat) (row : Int32) : Nat → Int32
  | 0 => 0
  | k + 1 => if w (15 + 7 * k) ≤ row then w (16 + 7 * k + l) else mSp w l row k
theorem i32_nlt {a b : Int32} : ¬ a < b ↔ b ≤ a := by rw [Int32.lt_iff_toInt_lt, Int32.le_iff_toInt_le]; omega
theorem i32_nle {a b : Int32} : ¬ a ≤ b ↔ b < a := by rw [Int32.lt_iff_toInt_lt, Int32.le_iff_toInt_le]; omega
theorem mSp_stop {w : Nat → Int32} (hw : Wf w) {l : Nat} {row : Int32} {k : Nat} (hk : k < ix (w 2)) (h : row < w (15 + 7 * k)) : ∀ d, k + d ≤ ix (w 2) → mSp w l row (k + d) = mSp w l row k := by
  intro d
  induction d with
  | zero => intro _; rfl
  | succ d ih =>
    intro hd
    show (if w (15 + 7 * (k + d)) ≤ row then _ else mSp w l row (k + d)) = _
    rw [if_neg, ih (by omega)]
    rw [i32_nle]
    have a := hw.2.1 k hk
    have b := hw.2.1 (k + d) (by omega)
    rcases Nat.eq_zero_or_pos d with rfl | hp
    · exact h
    · have := b.2.2 k (by omega)
      rw [b.1.1]
      rw [a.1.1] at h
      exact Int32.lt_trans h (nI_lt this (by have := b.1.2.2; omega))
theorem s_X3_speed {M : gM} {s l : Nat} {w : Nat → Int32} {row : Int32} {K : Int32 → gM → Prop} (hL : LSt M s) (hS : Shw M s w) (hw : Wf w) (hl : l < ix (w 0)) (hk : K (mSp w l row (ix (w 2))) M) : f_X3_speed s (nI l) row M K := by
  intro P hP
  have c := hw.cnt
  have c0 := hw.1.1
  have c2 := hw.1.2.2.1
  have key : ∀ d k, k + d = ix (w 2) → P s (nI l) row (mSp w l row k) (nI k) M := by
    intro d
    induction d with
    | zero =>
      intro k hkd
      apply hP
      refine ⟨hL.1.1, ?_⟩
      rw [hS.1.2.2.1, c2.1, if_pos (nI_le (by omega) (by omega)), show k = ix (w 2) by omega]
      exact hk
    | succ d ih =>
      intro k hkd
      apply hP
      have ek := hL.2.1 k (by omega)
      have ex : ix (nI k) = k := ix_nI (by omega)
      have eS := hS.2.1 k (by omega)
      refine ⟨hL.1.1, ?_⟩
      rw [hS.1.2.2.1, c2.1, if_neg (nI_ge (by omega) (by omega))]
      refine ⟨_, hL.1.2.1.1, inA_of hL.1.2.2.1 (by omega) (by omega), _, by rw [ex]; exact ek.1, ek.2.1, ?_⟩
      rw [eS.1]
      split
      · rename_i h
        rw [← mSp_stop hw (by omega) h (ix (w 2) - k) (by omega), show k + (ix (w 2) - k) = ix (w 2) by omega] 
        exact hk
      · rename_i h
        refine ⟨_, hL.1.2.1.1, inA_of hL.1.2.2.1 (by omega) (by omega), _, by rw [ex]; exact ek.1, ek.2.1, _, ek.2.2.1, inA_of ek.2.2.2 (by have := c0.2.2; omega) (by omega), ?_⟩
        rw [ix_nI (by have := c0.2.2; omega), eS.2 l hl, nI_1]
        have e1 : mSp w l row (k + 1) = w (16 + 7 * k + l) := if_pos (i32_nlt.mp h)
        rw [← e1]
        exact ih (k + 1) (by omega)
  have := key (ix (w 2)) 0 (by omega)
  exact this
