/-! PLAIN LAW 13: ways of the model -/
/-- the row v told without a flood -/
def FlW (w fw : Nat → Int32) (v : Int32) : Prop :=
  (∀ k, k < ix (w 5) → (nI k = v → fw (71 + 3 * k) = -1) ∧ (¬ nI k = v → fw (71 + 3 * k) = w (71 + 3 * k)) ∧ fw (72 + 3 * k) = w (72 + 3 * k) ∧ fw (73 + 3 * k) = w (73 + 3 * k)) ∧ ∀ j, (j < 71 ∨ 95 ≤ j) → fw j = w j
theorem nI_neg {n : Nat} (h : n < 2 ^ 31) : ¬ nI n = -1 := by
  intro e
  have e := congrArg Int32.toInt e
  rw [nI_toInt h, (show (-1 : Int32).toInt = -1 by decide)] at e
  omega
theorem s_X10_floods {M : gM} {t r Y m0 : Nat} {v : Int32} {w fw : Nat → Int32} {K : Int32 → gM → Prop} (hL : LT M t) (hW : ∀ k, k < 1244 → iv M (t + 1) k = w k) (hw : Wf w) (hf : FlW w fw v) (hr : r < 1000) (hY : Y < 300) (hm : iv M t 30 = nI m0) (hk : ∀ M', sm [t] M M' → (∀ j, j ≠ 30 → iv M' t j = iv M t j) → iv M' t 30 = nI (m0 + (mFld fw Y r (ix (w 5)) - r)) → K (nI (mFld fw Y r (ix (w 5)))) M') : f_X10_floods t (nI r) (nI Y) v M K := by
  intro P hP
  have c := hw.cnt
  have c5 := hw.1.2.2.2.2.2.1
  have key : ∀ n k M1 r1, k + n = ix (w 5) → r1 = mFld fw Y r k → r ≤ r1 → r1 ≤ r + 20 * k → sm [t] M M1 → (∀ j, j ≠ 30 → iv M1 t j = iv M t j) → iv M1 t 30 = nI (m0 + (r1 - r)) → P t (nI Y) v (nI r1) (nI k) M1 := by
    intro n
    induction n with
    | zero =>
      intro k M1 r1 hn hr1 hlo hhi hs hj h30
      have hL1 := hL.sm hs
      have eW : iv M1 (t + 1) = iv M (t + 1) := hs.2.2.2.2 _ (by simp)
      apply hP
      refine ⟨hL1.k, _, hL1.r1, inL 5 rfl hL1.k1 (by omega) (by omega), ?_⟩
      rw [show ix 5 = 5 by decide, eW, hW 5 (by omega), c5.1, if_pos (nI_le (by omega) (by omega)), hr1, show k = ix (w 5) by omega]
      exact hk M1 hs hj (by rw [h30, hr1, show k = ix (w 5) by omega])
    | succ n ih =>
      intro k M1 r1 hn hr1 hlo hhi hs hj h30
      have hL1 := hL.sm hs
      have eW : iv M1 (t + 1) = iv M (t + 1) := hs.2.2.2.2 _ (by simp)
      obtain ⟨f1, f2, f3, f4⟩ := hf.1 k (by omega)
      have hb := hw.2.2.1 k (by omega)
      have e1 : (71 : Int32) + (3 : Int32) * nI k = nI (71 + 3 * k) := nI_lin 71 3 k
      have e2 : nI (71 + 3 * k) + 1 = nI (72 + 3 * k) := by rw [nI_1]; congr 1; omega
      have e3 : nI (71 + 3 * k) + 2 = nI (73 + 3 * k) := by rw [show (2 : Int32) = nI 2 from rfl, nI_add]; congr 1; omega
      have eF : mFld fw Y r (k + 1) = if fw (71 + 3 * k) = nI Y ∧ ix (w (72 + 3 * k)) ≤ r1 then r1 + ix (w (73 + 3 * k)) else r1 := by
        unfold mFld
        rw [f3, f4, ← hr1]
      have skip : ¬ (fw (71 + 3 * k) = nI Y ∧ ix (w (72 + 3 * k)) ≤ r1) → P t (nI Y) v (nI r1) (nI (k + 1)) M1 := fun g =>
        ih (k + 1) M1 r1 (by omega) (by rw [eF, if_neg g]) hlo (by omega) hs hj h30
      apply hP
      refine ⟨hL1.k, _, hL1.r1, inL 5 rfl hL1.k1 (by omega) (by omega), ?_⟩
      rw [show ix 5 = 5 by decide, eW, hW 5 (by omega), c5.1, if_neg (nI_ge (by omega) (by omega)), nI_1]
      split
      · rename_i g
        exact skip fun q => by rw [f1 g] at q; exact nI_neg (by omega) q.1.symm
      · rename_i g
        refine ⟨_, hL1.r1, by rw [e1]; exact inA_of hL1.k1 (by omega) (by omega), ?_⟩
        rw [e1, ix_nI (by omega), eW, hW _ (by omega)]
        split
        · rename_i g1
          refine ⟨_, hL1.r1, by rw [e2]; exact inA_of hL1.k1 (by omega) (by omega), ?_⟩
          rw [e2, ix_nI (by omega), eW, hW _ (by omega), hb.1.1]
          have b2 := hb.1.2.2
          have b3 := hb.2.2.2
          split
          · rename_i g2
            have g2 := (nI_leI (by omega) (by omega)).mp g2
            refine ⟨_, hL1.r1, by rw [e3]; exact inA_of hL1.k1 (by omega) (by omega), fun x hx => ⟨_, hL1.r1, by rw [e3]; exact inA_of hL1.k1 (by omega) (by omega), fun M22 e22 => ?_⟩⟩
            rw [e3, ix_nI (by omega), eW, hW _ (by omega), hb.2.1, nI_add] at hx
            rw [e3, ix_nI (by omega), eW, hW _ (by omega), hb.2.1, h30, nI_add] at e22
            rw [hx]
            subst e22
            refine ih (k + 1) _ (r1 + ix (w (73 + 3 * k))) (by omega) (by rw [eF, if_pos ⟨(f2 g).trans g1, g2⟩]) (by omega) (by omega) (hs.tr (sm.i (by simp))) (fun j hj9 => by rw [iv_sIk hj9]; exact hj j hj9) ?_
            rw [iv_sIe]
            congr 1
            omega
          · rename_i g2
            exact skip fun q => g2 ((nI_leI (by omega) (by omega)).mpr q.2)
        · rename_i g1
          exact skip fun q => g1 ((f2 g).symm.trans q.1)
  exact key (ix (w 5)) 0 M r (by omega) rfl (Nat.le_refl _) (by omega) sm.rf (fun _ _ => rfl) (by rw [hm, Nat.sub_self, Nat.add_zero])
