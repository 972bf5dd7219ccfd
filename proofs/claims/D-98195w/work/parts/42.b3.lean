/-! PLAIN LAW 3: floods, heat, sinking of a State -/
def mFld (w : Nat → Int32) (Y r : Nat) : Nat → Nat
  | 0 => r
  | k + 1 => if w (71 + 3 * k) = nI Y ∧ ix (w (72 + 3 * k)) ≤ mFld w Y r k then mFld w Y r k + ix (w (73 + 3 * k)) else mFld w Y r k
theorem mFld_le {w : Nat → Int32} (hn : ∀ k, k < ix (w 5) → ix (w (73 + 3 * k)) ≤ 20) {Y r : Nat} : ∀ k, k ≤ ix (w 5) → r ≤ mFld w Y r k ∧ mFld w Y r k ≤ r + 20 * k := by
  intro k
  induction k with
  | zero => intro _; exact ⟨Nat.le_refl _, Nat.le_refl _⟩
  | succ k ih =>
    intro hk
    have h1 := ih (by omega)
    have h2 := hn k (by omega)
    unfold mFld
    split <;> omega
theorem s_X3_flooded {M : gM} {s r Y : Nat} {w : Nat → Int32} {K : Int32 → gM → Prop} (hL : LSt M s) (c5 : ix (w 5) ≤ 8) (e5 : iv M s 12 = nI (ix (w 5))) (hS : ∀ k, k < ix (w 5) → iv M (s + 26 + k) 0 = w (71 + 3 * k) ∧ iv M (s + 26 + k) 1 = w (72 + 3 * k) ∧ iv M (s + 26 + k) 2 = w (73 + 3 * k)) (hb : ∀ k, k < ix (w 5) → nb (w (72 + 3 * k)) 0 98 ∧ nb (w (73 + 3 * k)) 1 20) (hr : r < 1000) (hk : K (nI (mFld w Y r (ix (w 5)))) M) : f_X3_flooded s (nI r) (nI Y) M K := by
  intro P hP
  have bd := mFld_le (w := w) (Y := Y) (r := r) (fun k hk => (hb k hk).2.2.2)
  have key : ∀ d k, k + d = ix (w 5) → P s (nI Y) (nI (mFld w Y r k)) (nI k) M := by
    intro d
    induction d with
    | zero =>
      intro k hkd
      apply hP
      refine ⟨hL.1.1, ?_⟩
      rw [e5, if_pos (nI_le (by omega) (by omega)), show k = ix (w 5) by omega]
      exact hk
    | succ d ih =>
      intro k hkd
      apply hP
      have ek := hL.2.2.1 k (by omega)
      have ex : ix (nI k) = k := ix_nI (by omega)
      have eS := hS k (by omega)
      have eb := hb k (by omega)
      have e0 := bd k (by omega)
      have hn := ih (k + 1) (by omega)
      rw [← nI_1] at hn
      refine ⟨hL.1.1, ?_⟩
      rw [e5, if_neg (nI_ge (by omega) (by omega))]
      refine ⟨_, hL.1.2.1.2.1, inA_of hL.1.2.2.2.1 (by omega) (by omega), _, by rw [ex]; exact ek.1, ek.2, ?_⟩
      rw [eS.1]
      split
      · rename_i h
        refine ⟨_, hL.1.2.1.2.1, inA_of hL.1.2.2.2.1 (by omega) (by omega), _, by rw [ex]; exact ek.1, ek.2, ?_⟩
        rw [eS.2.1, eb.1.1]
        have h2 := eb.2.2.2
        have h1 := eb.1.2.2
        split
        · rename_i g
          have g := (nI_ltI (by omega) (by omega)).mp g
          rwa [show mFld w Y r (k + 1) = mFld w Y r k from if_neg fun q => by omega] at hn
        · rename_i g
          have g : ¬ mFld w Y r k < ix (w (72 + 3 * k)) := fun q => g ((nI_ltI (by omega) (by omega)).mpr q)
          refine ⟨_, hL.1.2.1.2.1, inA_of hL.1.2.2.2.1 (by omega) (by omega), _, by rw [ex]; exact ek.1, ek.2, ?_⟩
          rw [eS.2.2, eb.2.1, nI_add]
          rwa [show mFld w Y r (k + 1) = mFld w Y r k + ix (w (73 + 3 * k)) from if_pos ⟨h, by omega⟩] at hn
      · rename_i h
        rwa [show mFld w Y r (k + 1) = mFld w Y r k from if_neg fun q => h q.1] at hn
  exact key (ix (w 5)) 0 (by omega)
/-- heat: numbers out of the seed -/
def mX (x0 : Int32) : Nat → Int32
  | 0 => x0
  | k + 1 => 1103515245 * mX x0 k + 12345
def mMd (z : Int32) : Int32 := z - z / 10 * 10
def mHt (x0 : Int32) (k : Nat) : Int32 := mMd ((mX x0 (k + 1) >>> (16 : Int32)) &&& (32767 : Int32))
theorem shr_same (x : Int32) : ((x.toUInt32 >>> ((16 : Int32).toUInt32 &&& Int32.toUInt32 31)).toInt32) &&& (32767 : Int32) = (x >>> (16 : Int32)) &&& (32767 : Int32) := by
  apply Int32.toBitVec_inj.mp
  apply BitVec.eq_of_getLsbD_eq
  intro i hi
  have e1 : ((16 : Int32).toUInt32 &&& Int32.toUInt32 31) = 16 := by decide
  rw [e1]
  simp only [Int32.toBitVec_and, BitVec.getLsbD_and, UInt32.toBitVec_toInt32, UInt32.toBitVec_shiftRight, Int32.toBitVec_shiftRight, Int32.toBitVec_toUInt32]
  by_cases h : i < 15
  · congr 1
    have e2 : (((16 : UInt32).toBitVec % 32).toNat) = 16 := by decide
    have e3 : (((16 : Int32).toBitVec.smod 32).toNat) = 16 := by decide
    simp [BitVec.getLsbD_sshiftRight, e3, hi]
    simp [BitVec.getElem_sshiftRight, show 16 + i < 32 by omega, BitVec.getLsbD_eq_getElem]
  · have : (32767 : Int32).toBitVec.getLsbD i = false := by
      have : ∀ j : Fin 32, ¬ j.val < 15 → (32767 : Int32).toBitVec.getLsbD j.val = false := by decide
      exact this ⟨i, hi⟩ h
    rw [this, Bool.and_false, Bool.and_false]
/-- a State's heats are those of a seed -/
def Hts (M : gM) (a : Nat) (x0 : Int32) : Prop := ∀ k, k < 300 → iv M a k = mHt x0 k
theorem s_X3_draws {M : gM} {s : Nat} {K : gM → Prop} (hL : LSt M s) (hk : ∀ M', sm [s + 8] M M' → Hts M' (s + 8) (iv M s 21) → K M') : f_X3_draws s M K := by
  intro P hP
  have key : ∀ d k M1, k + d = 300 → sm [s + 8] M M1 → (∀ j, j < k → iv M1 (s + 8) j = mHt (iv M s 21) j) → P s (mX (iv M s 21) k) (nI k) M1 := by
    intro d
    induction d with
    | zero =>
      intro k M1 hkd hsm hh
      apply hP
      rw [if_pos (show (300 : Int32) ≤ nI k from nI_le (a := 300) (by omega) (by omega))]
      exact hk M1 hsm (fun j hj => hh j (by omega))
    | succ d ih =>
      intro k M1 hkd hsm hh
      apply hP
      rw [if_neg (show ¬ (300 : Int32) ≤ nI k from nI_ge (b := 300) (by omega) (by omega))]
      have hL1 := hL.sm hsm
      refine ⟨hL1.1.1, _, hL1.1.2.1.2.2.2.2.2.2.2.1, inA_of hL1.1.2.2.2.2.2.2.2.2.2.1 (by omega) (by omega), fun M7 e7 => ?_⟩
      rw [shr_same, nI_1, ix_nI (by omega)] at *
      subst e7
      refine ih (k + 1) _ (by omega) (hsm.tr (sm.i (by simp))) (fun j hj => ?_)
      rcases Nat.lt_or_ge j k with h | h
      · rw [iv_sIk (by omega)]
        exact hh j h
      · rw [show j = k by omega, iv_sIe]
        rfl
  exact ⟨hL.1.1, key 300 0 M (by omega) sm.rf (fun j hj => by omega)⟩
/-- sinking and melting by the law of snow -/
def mSk (w : Nat → Int32) (dp : Int32) (r : Nat) (Y : Nat) : Int32 :=
  if ix (w 10) ≤ r then (if 0 < dp - mHt (w 13) Y then dp - mHt (w 13) Y else 0) else (if dp + w 11 < 99 then dp + w 11 else 99)
theorem s_X3_sinks {M : gM} {s r Y : Nat} {w : Nat → Int32} {dp : Int32} {K : Int32 → gM → Prop} (hL : LSt M s) (hS : Shw M s w) (hw : nb (w 10) 0 98) (hH : Hts M (s + 8) (w 13)) (hr : r < 1000) (hY : Y < 300) (hk : K (mSk w dp r Y) M) : f_X3_sinks s dp (nI r) (nI Y) M K := by
  have e10 := hS.1.2.2.2.2.2.2.2.2.2.1
  have e11 := hS.1.2.2.2.2.2.2.2.2.2.2.1
  refine ⟨hL.1.1, ?_⟩
  rw [e10, hw.1]
  unfold mSk at hk
  have := hw.2.2
  split
  · rename_i h
    have h := (nI_leI (by omega) (by omega)).mp h
    rw [if_pos h] at hk
    refine ⟨_, hL.1.2.1.2.2.2.2.2.2.2.1, inA_of hL.1.2.2.2.2.2.2.2.2.2.1 hY (by omega), fun x hx => ?_⟩
    rw [ix_nI (by omega), hH Y hY] at hx
    rw [hx]
    exact hk
  · rename_i h
    have h : ¬ ix (w 10) ≤ r := fun q => h ((nI_leI (by omega) (by omega)).mpr q)
    rw [if_neg h] at hk
    intro x hx
    rw [e11] at hx
    rw [hx]
    exact hk
