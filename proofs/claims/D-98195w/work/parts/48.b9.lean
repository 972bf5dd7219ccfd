/-! PLAIN LAW 9: flows of the model -/
/-- what the model keeps of flows is true -/
def TFl (M : gM) (t : Nat) (w : Nat → Int32) (p : Nat → gCond) : Prop :=
  iv M t 26 = -1 ∨ ∃ l, l < ix (w 0) ∧ iv M t 26 = nI l ∧ ∀ r Y, r < 99 → Y < 300 → iv M (t + 9) (300 * r + Y) = 0 ∨ iv M (t + 9) (300 * r + Y) = mFl w p l r Y + 1
/-- all that is known of the model's present world -/
def TNow (M : gM) (t : Nat) (w : Nat → Int32) (p : Nat → gCond) : Prop :=
  LT M t ∧ (∀ k, k < 1244 → iv M (t + 1) k = w k) ∧ Wf w ∧ Hts M (t + 8) (w 13) ∧ LwT w p ∧ TFl M t w p
theorem LnT.cg {w v : Nat → Int32} (h : ∀ k, k < 1244 → v k = w k) {a : Nat} (ha : a < 12) {p : gCond} (hp : LnT w a p) : LnT v a p := by
  obtain ⟨i, j, h1, h2, h3, h4, h5⟩ := hp
  refine ⟨i, j, by rw [h _ (by omega)]; exact h1, by rw [h _ (by omega)]; exact h2, h3, h4, fun φ => (h5 φ).imp id fun g x => ?_⟩
  obtain ⟨v', g1, g2⟩ := g x
  refine ⟨v', ?_, g2⟩
  have e : ∀ d i q, i + d ≤ 400 → mRun (fun k => v (444 + 2 * k)) (fun k => v (445 + 2 * k)) φ d i q = mRun (fun k => w (444 + 2 * k)) (fun k => w (445 + 2 * k)) φ d i q := by
    intro d
    induction d with
    | zero => intro i q _; rfl
    | succ d ih =>
      intro i q hi
      show (mStp _ _ φ i q).bind _ = (mStp _ _ φ i q).bind _
      have e1 : mStp (fun k => v (444 + 2 * k)) (fun k => v (445 + 2 * k)) φ i q = mStp (fun k => w (444 + 2 * k)) (fun k => w (445 + 2 * k)) φ i q := by
        unfold mStp
        simp only [h (444 + 2 * i) (by omega), h (445 + 2 * i) (by omega)]
      rw [e1]
      congr 1
      funext q'
      exact ih (i + 1) q' (by omega)
  rw [e _ _ _ (by omega)]
  exact g1
theorem mMany_cg {w v : Nat → Int32} (h : ∀ k, k < 1244 → v k = w k) : mMany v = mMany w := by
  unfold mMany
  rw [h 8 (by omega), h 395 (by omega)]
theorem LwT.cg {w v : Nat → Int32} (h : ∀ k, k < 1244 → v k = w k) {p : Nat → gCond} (hp : LwT w p) : LwT v p := by
  have hm := mMany_le hp
  refine ⟨by rw [h 8 (by omega)]; exact hp.1, by rw [h 8 (by omega), h 395 (by omega)]; exact hp.2.1, fun a ha => ?_⟩
  rw [mMany_cg h] at ha
  have := hp.2.2 a ha
  rw [h _ (by omega), h _ (by omega)]
  exact ⟨this.1, this.2.1, this.2.2.1.cg h (by omega), this.2.2.2⟩
theorem mSumK_cg {w v : Nat → Int32} (h : ∀ k, k < 1244 → v k = w k) {p : Nat → gCond} {φ : Nat → Int32} {kind : Int32} : ∀ a, a ≤ 12 → mSumK v p φ kind a = mSumK w p φ kind a := by
  intro a
  induction a with
  | zero => intro _; rfl
  | succ a ih =>
    intro ha
    unfold mSumK
    rw [ih (by omega), h _ (by omega), h _ (by omega)]
theorem s_X10_speedAt {M : gM} {t l r : Nat} {w : Nat → Int32} {K : Int32 → gM → Prop} (hL : LT M t) (hW : ∀ k, k < 1244 → iv M (t + 1) k = w k) (hw : Wf w) (hl : l < ix (w 0)) (hk : K (mSp w l (nI r) (ix (w 2))) M) : f_X10_speedAt t (nI l) (nI r) M K := by
  intro P hP
  have c2 := hw.1.2.2.1
  have c0 := hw.1.1
  have key : ∀ d k, k + d = ix (w 2) → P t (nI l) (nI r) (mSp w l (nI r) k) (nI k) M := by
    intro d
    induction d with
    | zero =>
      intro k hkd
      apply hP
      refine ⟨hL.k, _, hL.r1, inL 2 rfl hL.k1 (by omega) (by omega), ?_⟩
      rw [show ix 2 = 2 by decide, hW 2 (by omega), c2.1, if_pos (nI_le (by omega) (by have := c2.2.2; omega)), show k = ix (w 2) by omega]
      exact hk
    | succ d ih =>
      intro k hkd
      have c9 := c2.2.2
      have c8 := c0.2.2
      have e1 : (15 : Int32) + (7 : Int32) * nI k = nI (15 + 7 * k) := nI_lin 15 7 k
      have e2 : nI (15 + 7 * k) + 1 + nI l = nI (16 + 7 * k + l) := by rw [nI_1, nI_add]; congr 1; omega
      have hi := ih (k + 1) (by omega)
      apply hP
      refine ⟨hL.k, _, hL.r1, inL 2 rfl hL.k1 (by omega) (by omega), ?_⟩
      rw [show ix 2 = 2 by decide, hW 2 (by omega), c2.1, if_neg (nI_ge (by omega) (by omega))]
      refine ⟨_, hL.r1, by rw [e1]; exact inA_of hL.k1 (by omega) (by omega), ?_⟩
      rw [e1, ix_nI (by omega), hW _ (by omega), nI_1]
      unfold mSp at hi
      split
      · rename_i g
        rw [if_neg (i32_nle.mpr g)] at hi
        exact hi
      · rename_i g
        rw [if_pos (i32_nlt.mp g)] at hi
        refine ⟨_, hL.r1, by rw [e2]; exact inA_of hL.k1 (by omega) (by omega), fun x hx => ?_⟩
        rw [e2, ix_nI (by omega), hW _ (by omega)] at hx
        rw [hx]
        exact hi
  exact key (ix (w 2)) 0 (by omega)
theorem s_X10_turnsTo {M : gM} {t l : Nat} {w : Nat → Int32} {p : Nat → gCond} {K : gM → Prop} (hL : LT M t) (hF : TFl M t w p) (l6 : ix (w 0) ≤ 6) (hl : l < ix (w 0)) (hk : ∀ M', sm [t, t + 9] M M' → (∀ j, j ≠ 26 → iv M' t j = iv M t j) → iv M' t 26 = nI l → (∀ r Y, r < 99 → Y < 300 → iv M' (t + 9) (300 * r + Y) = 0 ∨ iv M' (t + 9) (300 * r + Y) = mFl w p l r Y + 1) → K M') : f_X10_turnsTo t (nI l) M K := by
  intro P hP
  refine ⟨hL.k, ?_⟩
  split
  · rename_i g
    refine hk M sm.rf (fun _ _ => rfl) g.symm ?_
    rcases hF with h | ⟨l', hl', e, h⟩
    · rw [h] at g
      exact absurd g (by intro e; have := congrArg Int32.toInt e; rw [nI_toInt (by omega)] at this; have e9 : (-1 : Int32).toInt = -1 := (by decide); rw [e9] at this; omega)
    · rw [e] at g
      rw [(nI_eq (by omega) (by omega)).mp g]
      exact h
  · intro M3 h3
    subst h3
    have key : ∀ d k M1, k + d = 29700 → sm [t, t + 9] M M1 → (∀ j, j ≠ 26 → iv M1 t j = iv M t j) → iv M1 t 26 = nI l → (∀ j, j < k → iv M1 (t + 9) j = 0) → P t (nI k) M1 := by
      intro d
      induction d with
      | zero =>
        intro k M1 hkd hsm hB h26 hj
        have hL1 := hL.sm hsm
        apply hP
        refine ⟨hL1.k, _, hL1.r25, _, hL1.k9, ?_⟩
        rw [if_pos (nI_le (by omega) (by omega))]
        exact hk M1 hsm hB h26 fun r' Y' hr' hY' => Or.inl (hj _ (by omega))
      | succ d ih =>
        intro k M1 hkd hsm hB h26 hj
        have hL1 := hL.sm hsm
        apply hP
        refine ⟨hL1.k, _, hL1.r25, _, hL1.k9, ?_⟩
        rw [if_neg (nI_ge (by omega) (by omega))]
        refine ⟨_, hL1.r25, inA_of hL1.k9 (by omega) (by omega), fun M13 e13 => ?_⟩
        subst e13
        rw [nI_1, ix_nI (by omega)]
        refine ih (k + 1) _ (by omega) (hsm.tr (sm.i (by simp))) (fun j hj9 => by rw [iv_sIa (by omega)]; exact hB j hj9) (by rw [iv_sIa (by omega)]; exact h26) fun j hj9 => ?_
        by_cases hc : j = k
        · rw [hc, iv_sIe]; decide
        · rw [iv_sIk hc]; exact hj j (by omega)
    exact key 29700 0 _ (by omega) (sm.i (by simp)) (fun j hj => iv_sIk hj) iv_sIe (fun j hj => by omega)
theorem i8_small : ∀ k, k < 32 → ((nI k).toInt8.toInt32).toInt8.toInt32 = nI k := by decide +kernel
set_option maxHeartbeats 1000000 in
theorem s_X10_flowAt {M : gM} {t l r Y : Nat} {w : Nat → Int32} {p : Nat → gCond} {K : Int32 → gM → Prop} (h : TNow M t w p) (hl : l < ix (w 0)) (hr : r < 99) (hY : Y < 300) (hk : ∀ M', sm [t, t + 7, t + 9] M M' → (∀ j, j < 17 ∨ (23 < j ∧ j ≠ 26) → iv M' t j = iv M t j) → TFl M' t w p → K (mFl w p l r Y) M') : f_X10_flowAt t (nI l) (nI r) (nI Y) M K := by
  obtain ⟨hL, hW, hw, hH, hT, hF⟩ := h
  have l6 := hw.1.1.2.2
  have ea : nI r * (300 : Int32) + nI Y = nI (300 * r + Y) := by rw [show (300 : Int32) = nI 300 from rfl, nI_mul, nI_add, Nat.mul_comm]
  refine ⟨hL.k, s_X10_turnsTo hL hF l6 hl fun M2 hs2 hj2 h26 hfl => ?_⟩
  have hL2 := hL.sm hs2
  refine ⟨hL2.k, _, hL2.r25, by rw [ea]; exact inA_of hL2.k9 (by omega) (by omega), ?_⟩
  rw [ea, ix_nI (by omega)]
  have nbF := mFl_nb (w := w) (p := p) (l := l) (r := r) (Y := Y)
  split
  · rename_i g
    intro M8 e8
    refine ⟨by subst e8; exact hL2.k, fun M10 e10 => ⟨by subst e10 e8; exact hL2.k, fun M12 e12 => ⟨by subst e12 e10 e8; exact hL2.k, ?_⟩⟩⟩
    have hs12 : sm [t, t + 7, t + 9] M M12 := by
      subst e12 e10 e8
      exact (((hs2.wk (by simp <;> omega)).tr (sm.i (by simp))).tr (sm.i (by simp))).tr (sm.i (by simp))
    have hv12 : (∀ j, j ≠ 17 → j ≠ 18 → j ≠ 19 → iv M12 t j = iv M2 t j) ∧ iv M12 t 17 = nI l ∧ iv M12 t 18 = nI r ∧ iv M12 t 19 = nI Y := by
      subst e12 e10 e8
      refine ⟨fun j a b c => by rw [iv_sIk c, iv_sIk b, iv_sIk a], ?_, ?_, ?_⟩ <;> simp [iv_sI]
    have hL12 := hL.sm hs12
    have eW12 : iv M12 (t + 1) = iv M (t + 1) := hs12.2.2.2.2 _ (by simp <;> omega)
    have e912 : iv M12 (t + 9) = iv M2 (t + 9) := by
      subst e12 e10 e8
      rw [iv_sIa (by omega), iv_sIa (by omega), iv_sIa (by omega)]
    refine s_X10_speedAt hL12 (by rw [eW12]; exact hW) hw hl ⟨hL12.k, fun M17 e17 => ⟨by subst e17; exact hL12.k, fun M19 e19 => ⟨by subst e19 e17; exact hL12.k, fun M21 e21 => ⟨by subst e21 e19 e17; exact hL12.k, fun M23 e23 => ⟨by subst e23 e21 e19 e17; exact hL12.k, ?_⟩⟩⟩⟩⟩
    have hs23 : sm [t, t + 7, t + 9] M M23 := by
      subst e23 e21 e19 e17
      exact ((((hs12.tr (sm.i (by simp))).tr (sm.i (by simp))).tr (sm.i (by simp))).tr (sm.i (by simp)))
    have hv23 : (∀ j, j ≠ 20 → j ≠ 21 → j ≠ 22 → j ≠ 23 → iv M23 t j = iv M12 t j) ∧ iv M23 t 20 = mSp w l (nI r) (ix (w 2)) ∧ iv M23 t 21 = 0 ∧ iv M23 t 22 = 0 ∧ iv M23 t 23 = 0 := by
      subst e23 e21 e19 e17
      refine ⟨fun j a b c d => by rw [iv_sIk d, iv_sIk c, iv_sIk b, iv_sIk a], ?_, ?_, ?_, ?_⟩ <;> simp [iv_sI]
    have hL23 := hL.sm hs23
    have eW23 : iv M23 (t + 1) = iv M (t + 1) := hs23.2.2.2.2 _ (by simp <;> omega)
    have eH23 : iv M23 (t + 8) = iv M (t + 8) := hs23.2.2.2.2 _ (by simp <;> omega)
    have e923 : iv M23 (t + 9) = iv M2 (t + 9) := by
      subst e23 e21 e19 e17
      rw [iv_sIa (by omega), iv_sIa (by omega), iv_sIa (by omega), iv_sIa (by omega)]
      exact e912
    have hcg : ∀ k, k < 1244 → iv M23 (t + 1) k = w k := fun k hk9 => by rw [eW23]; exact hW k hk9
    have hTF : TF M23 t (mPhi w (nI l) (nI r) Y (mSp w l (nI r) (ix (w 2))) 0 0 0) := by
      refine ⟨?_, ?_, ?_, hv23.2.1, hv23.2.2.1, hv23.2.2.2.1, hv23.2.2.2.2, ⟨Y, hY, rfl, by rw [eH23]; exact hH Y hY⟩, ?_, ?_⟩
      · rw [hv23.1 17 (by omega) (by omega) (by omega) (by omega)]; exact hv12.2.1
      · rw [hv23.1 18 (by omega) (by omega) (by omega) (by omega)]; exact hv12.2.2.1
      · rw [hv23.1 19 (by omega) (by omega) (by omega) (by omega)]; exact hv12.2.2.2
      · rw [hcg 0 (by omega)]; rfl
      · rw [hcg 12 (by omega)]; rfl
    have hT23 := hT.cg hcg
    have hm := mMany_le hT
    refine s_X10_sumOf hL23 hTF hT23 fun M25 hs25 => ?_
    have hL25 := hL23.sm hs25
    have eW25 : iv M25 (t + 1) = iv M23 (t + 1) := hs25.2.2.2.2 _ (by simp)
    refine ⟨hL25.k, s_X10_sumOf hL25 (hTF.sm hs25 (by simp) (by simp) (by simp)) (by rw [eW25]; exact hT23) fun M28 hs28 => ?_⟩
    intro x30 e30 x31 e31
    have hs28' : sm [t, t + 7, t + 9] M M28 := (hs23.tr (hs25.wk (by simp))).tr (hs28.wk (by simp))
    have hL28 := hL.sm hs28'
    have e31' : x31 = mFl w p l r Y := by
      rw [e31, e30, eW25, mMany_cg hcg, mSumK_cg hcg _ hm, mSumK_cg hcg _ hm, hv23.2.1]
      rfl
    refine ⟨hL28.k, _, hL28.r25, inA_of hL28.k9 (by omega) (by omega), fun M36 e36 => ?_⟩
    have e9 : iv M28 (t + 9) = iv M2 (t + 9) := by
      rw [hs28.2.2.2.2 _ (by simp), hs25.2.2.2.2 _ (by simp)]; exact e923
    have et : ∀ j, j < 17 ∨ 23 < j → iv M28 t j = iv M2 t j := fun j hj => by
      rw [hs28.2.2.2.2 _ (by simp), hs25.2.2.2.2 _ (by simp), hv23.1 j (by omega) (by omega) (by omega) (by omega), hv12.1 j (by omega) (by omega) (by omega)]
    have est : ((x31 + 1).toInt8.toInt32).toInt8.toInt32 = mFl w p l r Y + 1 := by
      rw [e31', nbF.1, nI_1]
      exact i8_small _ (by have := nbF.2.2; omega)
    rw [est] at e36
    rw [e31']
    refine hk M36 (by subst e36; exact hs28'.tr (sm.i (by simp))) (fun j hj => ?_) (Or.inr ⟨l, hl, ?_, fun r' Y' hr' hY' => ?_⟩)
    · subst e36
      rw [iv_sIa (by omega), et j (by omega), hj2 j (by omega)]
    · subst e36
      rw [iv_sIa (by omega), et 26 (by omega), h26]
    · subst e36
      by_cases hc : 300 * r' + Y' = 300 * r + Y
      · rw [hc, iv_sIe]
        right
        rw [show Y' = Y by omega, show r' = r by omega]
      · rw [iv_sIk hc, e9]
        exact hfl r' Y' hr' hY'
  · rename_i g
    refine ⟨_, hL2.r25, inA_of hL2.k9 (by omega) (by omega), ?_⟩
    have hv := (hfl r Y hr hY).resolve_left (fun q => g (by rw [q]; decide))
    rw [hv, nbF.1, nI_1, show nI (ix (mFl w p l r Y) + 1) - 1 = nI (ix (mFl w p l r Y)) from nI_pred _, ← nbF.1]
    exact hk M2 (hs2.wk (by simp <;> omega)) (fun j hj => hj2 j (by omega)) (Or.inr ⟨l, hl, h26, hfl⟩)
