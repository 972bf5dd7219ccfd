/-! PLAIN LAW 12: a trip goes its way -/
def isTrip (B q : Nat) : Prop := q = B + 242 ∨ q = B + 245
theorem LC.trip {M : gM} {B q : Nat} (h : LC M B) (hq : isTrip B q) : kd M q = some (.inl 9) ∧ rv M q 0 = some (q + 1) ∧ rv M q 1 = some (q + 2) ∧ rv M q 4 = some B ∧ kd M (q + 1) = some (.inr (0, 300)) ∧ kd M (q + 2) = some (.inr (0, 300)) := by
  rcases hq with rfl | rfl
  · exact ⟨h.k1, h.t0, h.t1, h.t4, h.k1r, h.k1d⟩
  · exact ⟨h.k2, h.u0, h.u1, h.u4, h.k2r, h.k2d⟩
set_option maxHeartbeats 1000000 in
theorem s_X9_goes {M : gM} {B q l r0 Y0 : Nat} {rock : Bool} {w : Nat → Int32} {p : Nat → gCond} {K : Nat → gM → Prop} (h : CN M B w p) (hq : isTrip B q) (hl : l < ix (w 0)) (hr0 : r0 < ix (w 1)) (hY0 : Y0 < 300)
    (hk : ∀ M', sm [B, B + 94, B + 248, q, q + 1, q + 2] M M' → (∀ j, j ≠ 14 → iv M' B j = iv M B j) → CN M' B w p → TripIs M' q w p l r0 Y0 rock → K q M') : f_X9_goes q (nI l) (nI r0) (nI Y0) (bI rock) M K := by
  have hw := h.1.2.2.1
  have w1 := hw.1.2.1
  have w1a := w1.2.2
  have qB : B + 242 ≤ q ∧ q ≤ B + 245 := by rcases hq with rfl | rfl <;> omega
  have hWin : ∀ a, a ∈ [B, B + 94, B + 248, q, q + 1, q + 2] → inW B a := by
    intro a ha
    simp only [List.mem_cons, List.not_mem_nil, or_false] at ha
    unfold inW
    omega
  have hmO : ∀ d, Y0 + d < 300 → ∀ y, mO w p l r0 Y0 rock d = some y → y < 300 := fun d hd y e => by have := (mO_some d y e).2.1; omega
  have step : ∀ {M1 a k x}, a = q ∨ a = q + 1 ∨ a = q + 2 → sm [B, B + 94, B + 248, q, q + 1, q + 2] M M1 → (∀ j, j ≠ 14 → iv M1 B j = iv M B j) → CN M1 B w p → sm [B, B + 94, B + 248, q, q + 1, q + 2] M (sI M1 a k x) ∧ (∀ j, j ≠ 14 → iv (sI M1 a k x) B j = iv M B j) ∧ CN (sI M1 a k x) B w p := by
    intro M1 a k x ha hs hj hc
    have ma : a ∈ [B, B + 94, B + 248, q, q + 1, q + 2] := by rcases ha with rfl | rfl | rfl <;> simp
    refine ⟨hs.tr (sm.i ma), fun j hj9 => by rw [iv_sIa (by omega)]; exact hj j hj9, hc.sm (sm.i ma) hWin (hc.1.2.2.2.2.2.same (by rw [iv_sIa (by omega)]) (by rw [iv_sIa (by omega)]))⟩
  intro P28 P52 P109 P193 h28 h52 h109 h193
  have key : ∀ n d M1, Y0 + d + n = 299 → sm [B, B + 94, B + 248, q, q + 1, q + 2] M M1 → (∀ j, j ≠ 14 → iv M1 B j = iv M B j) → CN M1 B w p → iv M1 q 2 = nI Y0 → iv M1 q 3 = mOutC (mO w p l r0 Y0 rock d) →
      (∀ e, e ≤ d → iv M1 (q + 1) (Y0 + e) = nI (min (mRD w p l r0 Y0 rock e).1 (ix (w 1))) ∧ iv M1 (q + 2) (Y0 + e) = (mRD w p l r0 Y0 rock e).2) → P28 q (nI l) (bI rock) (nI (Y0 + d)) M1 := by
    intro n
    induction n with
    | zero =>
      intro d M1 hn hs hj hc e2 e3 hv
      apply h28
      rw [nI_1, if_pos (show (300 : Int32) ≤ nI (Y0 + d + 1) from nI_le (a := 300) (by omega) (by omega))]
      exact hk M1 hs hj hc ⟨e2, by rw [e3, show 299 - Y0 = d by omega], fun e he => hv e (by omega)⟩
    | succ n ih =>
      intro d M1 hn hs hj hc e2 e3 hv
      have hL := hc.1.1
      obtain ⟨t1, t2, t3, t4, t5, t6⟩ := hL.trip hq
      have vd := hv d (Nat.le_refl _)
      have rd := mRD_le (w := w) (p := p) (l := l) (r0 := r0) (Y0 := Y0) (rock := rock) hw (by omega) d
      have rd1 := mRD_le (w := w) (p := p) (l := l) (r0 := r0) (Y0 := Y0) (rock := rock) hw (by omega) (d + 1)
      have i1 : nI (Y0 + d) + 1 = nI (Y0 + (d + 1)) := nI_1 _
      -- the row's and the depth's cells written: what is left
      have last : ∀ (there : Bool) M2, sm [B, B + 94, B + 248, q, q + 1, q + 2] M M2 → (∀ j, j ≠ 14 → iv M2 B j = iv M B j) → CN M2 B w p → iv M2 q 2 = nI Y0 → iv M2 q 3 = mOutC (mO w p l r0 Y0 rock d) →
          (∀ e, e ≤ d → iv M2 (q + 1) (Y0 + e) = nI (min (mRD w p l r0 Y0 rock e).1 (ix (w 1))) ∧ iv M2 (q + 2) (Y0 + e) = (mRD w p l r0 Y0 rock e).2) →
          iv M2 (q + 1) (Y0 + (d + 1)) = nI (min (mRD w p l r0 Y0 rock (d + 1)).1 (ix (w 1))) →
          (there = true ↔ mO w p l r0 Y0 rock d ≠ none) → ∀ r', (there = false → r' = nI (mRD w p l r0 Y0 rock (d + 1)).1) →
          P193 q (nI l) (bI rock) (nI (Y0 + d)) (bI there) r' (mRD w p l r0 Y0 rock (d + 1)).2 (nI (Y0 + (d + 1))) (q + 2) M2 := by
        intro there M2 hs2 hj2 hc2 f2 f3 fv fn hth r' hr'
        have hL2 := hc2.1.1
        obtain ⟨u1, u2, u3, u4, u5, u6⟩ := hL2.trip hq
        apply h193
        refine ⟨inA_of u6 (by omega) (by omega), fun M81 e81 => ?_⟩
        rw [ix_nI (by omega)] at e81
        obtain ⟨s1, s2, s3⟩ := step (M1 := M2) (a := q + 2) (k := Y0 + (d + 1)) (x := (mRD w p l r0 Y0 rock (d + 1)).2) (Or.inr (Or.inr rfl)) hs2 hj2 hc2
        rw [← e81] at s1 s2 s3
        have g2 : iv M81 q 2 = nI Y0 := by rw [e81, iv_sIa (by omega)]; exact f2
        have g3 : iv M81 q 3 = mOutC (mO w p l r0 Y0 rock d) := by rw [e81, iv_sIa (by omega)]; exact f3
        have gv : ∀ e, e ≤ d + 1 → iv M81 (q + 1) (Y0 + e) = nI (min (mRD w p l r0 Y0 rock e).1 (ix (w 1))) ∧ iv M81 (q + 2) (Y0 + e) = (mRD w p l r0 Y0 rock e).2 := by
          intro e he
          rw [e81, iv_sIa (by omega)]
          rcases Nat.lt_or_ge d e with hd | hd
          · rw [show e = d + 1 by omega, iv_sIe]; exact ⟨fn, rfl⟩
          · rw [iv_sIk (by omega)]; exact fv e hd
        cases there with
        | true =>
          rw [if_neg (show ¬ bI true = 0 by decide), i1]
          refine ih (d + 1) M81 (by omega) s1 s2 s3 g2 ?_ gv
          rw [g3]
          cases hc9 : mO w p l r0 Y0 rock d with
          | none => exact absurd hc9 (hth.mp rfl)
          | some o =>
            have : mO w p l r0 Y0 rock (d + 1) = some o := by unfold mO; rw [hc9]
            rw [this]
        | false =>
          have hn9 : mO w p l r0 Y0 rock d = none := by
            cases hc9 : mO w p l r0 Y0 rock d with
            | none => rfl
            | some o => exact absurd (hth.mpr (by rw [hc9]; exact fun q => nomatch q)) (by decide)
          have e9 : mO w p l r0 Y0 rock (d + 1) = if ix (w 1) ≤ (mRD w p l r0 Y0 rock (d + 1)).1 then some (Y0 + (d + 1)) else none := by
            show (match mO w p l r0 Y0 rock d with | some o => some o | none => _) = _
            rw [hn9]
          have hL81 := s3.1.1
          have eS : iv M81 (B + 85) 10 = w 1 := s3.1.2.1.1.2.1
          rw [if_pos (show bI false = 0 from rfl)]
          refine ⟨(hL81.trip hq).1, B, (hL81.trip hq).2.2.2.1, hL81.k, _, hL81.r1, hL81.sn.1.1, ?_⟩
          rw [eS, hr' rfl, w1.1, i1]
          split
          · rename_i g
            have g := (nI_ltI (by omega) (by omega)).mp g
            refine ih (d + 1) M81 (by omega) s1 s2 s3 g2 ?_ gv
            rw [g3, hn9, e9, if_neg (by omega)]
          · rename_i g
            have g : ¬ (mRD w p l r0 Y0 rock (d + 1)).1 < ix (w 1) := fun q => g ((nI_ltI (by omega) (by omega)).mpr q)
            intro M91 e91
            obtain ⟨z1, z2, z3⟩ := step (M1 := M81) (a := q) (k := 3) (x := nI (Y0 + (d + 1))) (Or.inl rfl) s1 s2 s3
            rw [← e91] at z1 z2 z3
            refine ih (d + 1) M91 (by omega) z1 z2 z3 (by rw [e91, iv_sIk (by omega)]; exact g2) ?_ (fun e he => ?_)
            · rw [e91, iv_sIe, e9, if_pos (by omega)]; rfl
            · rw [e91, iv_sIa (by omega), iv_sIa (by omega)]; exact gv e he
      sorry
  sorry
