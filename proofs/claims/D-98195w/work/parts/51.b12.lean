/-! PLAIN LAW 12: a trip goes its way -/
def isTrip (B q : Nat) : Prop := q = B + 242 ∨ q = B + 245
theorem LC.trip {M : gM} {B q : Nat} (h : LC M B) (hq : isTrip B q) : kd M q = some (.inl 9) ∧ rv M q 0 = some (q + 1) ∧ rv M q 1 = some (q + 2) ∧ rv M q 4 = some B ∧ kd M (q + 1) = some (.inr (0, 300)) ∧ kd M (q + 2) = some (.inr (0, 300)) := by
  rcases hq with rfl | rfl
  · exact ⟨h.k1, h.t0, h.t1, h.t4, h.k1r, h.k1d⟩
  · exact ⟨h.k2, h.u0, h.u1, h.u4, h.k2r, h.k2d⟩
set_option maxHeartbeats 1000000 in
theorem s_X9_goes {M : gM} {B q l r0 Y0 : Nat} {rock : Bool} {w : Nat → Int32} {p : Nat → gCond} {K : Nat → gM → Prop} (h : CN M B w p) (hq : isTrip B q) (hl : l < ix (w 0)) (hr0 : r0 < ix (w 1)) (hY0 : Y0 < 300)
    (hk : ∀ M', sm [B, B + 94, B + 248, q, q + 1, q + 2] M M' → (∀ j, j ≠ 14 → iv M' B j = iv M B j) → CN M' B w p → TripIs M' q w p l r0 Y0 rock → K q M') : f_X9_goes q (nI l) (nI r0) (nI Y0) (bI rock) M K := by
  have hw := h.1.2.2.1
  have w1 := hw.1.2.1
  have w1a := w1.2.2
  have qB : B + 242 ≤ q ∧ q ≤ B + 245 := by rcases hq with rfl | rfl <;> omega
  have hWin : ∀ a, a ∈ [B, B + 94, B + 248, q, q + 1, q + 2] → inW B a := by
    intro a ha
    simp only [List.mem_cons, List.not_mem_nil, or_false] at ha
    unfold inW
    omega
  have hmO : ∀ d, Y0 + d < 300 → ∀ y, mO w p l r0 Y0 rock d = some y → y < 300 := fun d hd y e => by have := (mO_some d y e).2.1; omega
  have step : ∀ {M1 a k x}, a = q ∨ a = q + 1 ∨ a = q + 2 → sm [B, B + 94, B + 248, q, q + 1, q + 2] M M1 → (∀ j, j ≠ 14 → iv M1 B j = iv M B j) → CN M1 B w p → sm [B, B + 94, B + 248, q, q + 1, q + 2] M (sI M1 a k x) ∧ (∀ j, j ≠ 14 → iv (sI M1 a k x) B j = iv M B j) ∧ CN (sI M1 a k x) B w p := by
    intro M1 a k x ha hs hj hc
    have ma : a ∈ [B, B + 94, B + 248, q, q + 1, q + 2] := by rcases ha with rfl | rfl | rfl <;> simp
    refine ⟨hs.tr (sm.i ma), fun j hj9 => by rw [iv_sIa (by omega)]; exact hj j hj9, hc.sm (sm.i ma) hWin (hc.1.2.2.2.2.2.same (by rw [iv_sIa (by omega)]) (by rw [iv_sIa (by omega)]))⟩
  intro P28 P52 P109 P193 h28 h52 h109 h193
  have key : ∀ n d M1, Y0 + d + n = 299 → sm [B, B + 94, B + 248, q, q + 1, q + 2] M M1 → (∀ j, j ≠ 14 → iv M1 B j = iv M B j) → CN M1 B w p → iv M1 q 2 = nI Y0 → iv M1 q 3 = mOutC (mO w p l r0 Y0 rock d) →
      (∀ e, e ≤ d → iv M1 (q + 1) (Y0 + e) = nI (min (mRD w p l r0 Y0 rock e).1 (ix (w 1))) ∧ iv M1 (q + 2) (Y0 + e) = (mRD w p l r0 Y0 rock e).2) → P28 q (nI l) (bI rock) (nI (Y0 + d)) M1 := by
    intro n
    induction n with
    | zero =>
      intro d M1 hn hs hj hc e2 e3 hv
      apply h28
      rw [nI_1, if_pos (show (300 : Int32) ≤ nI (Y0 + d + 1) from nI_le (a := 300) (by omega) (by omega))]
      exact hk M1 hs hj hc ⟨e2, by rw [e3, show 299 - Y0 = d by omega], fun e he => hv e (by omega)⟩
    | succ n ih =>
      intro d M1 hn hs hj hc e2 e3 hv
      have hL := hc.1.1
      obtain ⟨t1, t2, t3, t4, t5, t6⟩ := hL.trip hq
      have vd := hv d (Nat.le_refl _)
      have rd := mRD_le (w := w) (p := p) (l := l) (r0 := r0) (Y0 := Y0) (rock := rock) hw (by omega) d
      have rd1 := mRD_le (w := w) (p := p) (l := l) (r0 := r0) (Y0 := Y0) (rock := rock) hw (by omega) (d + 1)
      have i1 : nI (Y0 + d) + 1 = nI (Y0 + (d + 1)) := nI_1 _
      -- the row's and the depth's cells written: what is left
      have last : ∀ (there : Bool) M2, sm [B, B + 94, B + 248, q, q + 1, q + 2] M M2 → (∀ j, j ≠ 14 → iv M2 B j = iv M B j) → CN M2 B w p → iv M2 q 2 = nI Y0 → iv M2 q 3 = mOutC (mO w p l r0 Y0 rock d) →
          (∀ e, e ≤ d → iv M2 (q + 1) (Y0 + e) = nI (min (mRD w p l r0 Y0 rock e).1 (ix (w 1))) ∧ iv M2 (q + 2) (Y0 + e) = (mRD w p l r0 Y0 rock e).2) →
          iv M2 (q + 1) (Y0 + (d + 1)) = nI (min (mRD w p l r0 Y0 rock (d + 1)).1 (ix (w 1))) →
          (there = true ↔ mO w p l r0 Y0 rock d ≠ none) → ∀ r', (there = false → r' = nI (mRD w p l r0 Y0 rock (d + 1)).1) →
          P193 q (nI l) (bI rock) (nI (Y0 + d)) (bI there) r' (mRD w p l r0 Y0 rock (d + 1)).2 (nI (Y0 + (d + 1))) (q + 2) M2 := by
        intro there M2 hs2 hj2 hc2 f2 f3 fv fn hth r' hr'
        have hL2 := hc2.1.1
        obtain ⟨u1, u2, u3, u4, u5, u6⟩ := hL2.trip hq
        apply h193
        refine ⟨inA_of u6 (by omega) (by omega), fun M81 e81 => ?_⟩
        rw [ix_nI (by omega)] at e81
        obtain ⟨s1, s2, s3⟩ := step (M1 := M2) (a := q + 2) (k := Y0 + (d + 1)) (x := (mRD w p l r0 Y0 rock (d + 1)).2) (Or.inr (Or.inr rfl)) hs2 hj2 hc2
        rw [← e81] at s1 s2 s3
        have g2 : iv M81 q 2 = nI Y0 := by rw [e81, iv_sIa (by omega)]; exact f2
        have g3 : iv M81 q 3 = mOutC (mO w p l r0 Y0 rock d) := by rw [e81, iv_sIa (by omega)]; exact f3
        have gv : ∀ e, e ≤ d + 1 → iv M81 (q + 1) (Y0 + e) = nI (min (mRD w p l r0 Y0 rock e).1 (ix (w 1))) ∧ iv M81 (q + 2) (Y0 + e) = (mRD w p l r0 Y0 rock e).2 := by
          intro e he
          rw [e81, iv_sIa (by omega)]
          rcases Nat.lt_or_ge d e with hd | hd
          · rw [show e = d + 1 by omega, iv_sIe]; exact ⟨fn, rfl⟩
          · rw [iv_sIk (by omega)]; exact fv e hd
        cases there with
        | true =>
          rw [if_neg (show ¬ bI true = 0 by decide), i1]
          refine ih (d + 1) M81 (by omega) s1 s2 s3 g2 ?_ gv
          rw [g3]
          cases hc9 : mO w p l r0 Y0 rock d with
          | none => exact absurd hc9 (hth.mp rfl)
          | some o =>
            have : mO w p l r0 Y0 rock (d + 1) = some o := by unfold mO; rw [hc9]
            rw [this]
        | false =>
          have hn9 : mO w p l r0 Y0 rock d = none := by
            cases hc9 : mO w p l r0 Y0 rock d with
            | none => rfl
            | some o => exact absurd (hth.mpr (by rw [hc9]; exact fun q => nomatch q)) (by decide)
          have e9 : mO w p l r0 Y0 rock (d + 1) = if ix (w 1) ≤ (mRD w p l r0 Y0 rock (d + 1)).1 then some (Y0 + (d + 1)) else none := by
            show (match mO w p l r0 Y0 rock d with | some o => some o | none => _) = _
            rw [hn9]
          have hL81 := s3.1.1
          have eS : iv M81 (B + 85) 10 = w 1 := s3.1.2.1.1.2.1
          rw [if_pos (show bI false = 0 from rfl)]
          refine ⟨(hL81.trip hq).1, B, (hL81.trip hq).2.2.2.1, hL81.k, _, hL81.r1, hL81.sn.1.1, ?_⟩
          rw [eS, hr' rfl, w1.1, i1]
          split
          · rename_i g
            have g := (nI_ltI (by omega) (by omega)).mp g
            refine ih (d + 1) M81 (by omega) s1 s2 s3 g2 ?_ gv
            rw [g3, hn9, e9, if_neg (by omega)]
          · rename_i g
            have g : ¬ (mRD w p l r0 Y0 rock (d + 1)).1 < ix (w 1) := fun q => g ((nI_ltI (by omega) (by omega)).mpr q)
            intro M91 e91
            obtain ⟨z1, z2, z3⟩ := step (M1 := M81) (a := q) (k := 3) (x := nI (Y0 + (d + 1))) (Or.inl rfl) s1 s2 s3
            rw [← e91] at z1 z2 z3
            refine ih (d + 1) M91 (by omega) z1 z2 z3 (by rw [e91, iv_sIk (by omega)]; exact g2) ?_ (fun e he => ?_)
            · rw [e91, iv_sIe, e9, if_pos (by omega)]; rfl
            · rw [e91, iv_sIa (by omega), iv_sIa (by omega)]; exact gv e he
      -- the row reckoned: what is left
      have mid : ∀ (there : Bool) M2, sm [B, B + 94, B + 248, q, q + 1, q + 2] M M2 → (∀ j, j ≠ 14 → iv M2 B j = iv M B j) → CN M2 B w p → iv M2 q 2 = nI Y0 → iv M2 q 3 = mOutC (mO w p l r0 Y0 rock d) →
          (∀ e, e ≤ d → iv M2 (q + 1) (Y0 + e) = nI (min (mRD w p l r0 Y0 rock e).1 (ix (w 1))) ∧ iv M2 (q + 2) (Y0 + e) = (mRD w p l r0 Y0 rock e).2) →
          (there = true ↔ mO w p l r0 Y0 rock d ≠ none) → ∀ r', r' = (if there then w 1 else nI (mRD w p l r0 Y0 rock (d + 1)).1) →
          P109 q (nI l) (bI rock) (nI (Y0 + d)) (bI there) r' M2 := by
        intro there M2 hs2 hj2 hc2 f2 f3 fv hth r' hr'
        have hL2 := hc2.1.1
        obtain ⟨u1, u2, u3, u4, u5, u6⟩ := hL2.trip hq
        have eS : iv M2 (B + 85) 10 = w 1 := hc2.1.2.1.1.2.1
        have hth' : there = true ↔ ix (w 1) ≤ (mRD w p l r0 Y0 rock d).1 := by
          rw [hth, Ne, mO_none]; omega
        have eR : mRD w p l r0 Y0 rock (d + 1) = if there = true then mRD w p l r0 Y0 rock d else (mFld w (Y0 + d) ((mRD w p l r0 Y0 rock d).1 + ix (mFl w p l (mRD w p l r0 Y0 rock d).1 (Y0 + d))) (ix (w 5)), if rock then 0 else mSk w (mRD w p l r0 Y0 rock d).2 (mRD w p l r0 Y0 rock d).1 (Y0 + d)) := by
          conv => lhs; unfold mRD
          by_cases g : there = true
          · rw [if_pos g, if_pos (hth'.mp g)]
          · rw [if_neg g, if_neg (fun q => g (hth'.mpr q))]
        have ex : (if w 1 < r' then w 1 else r') = nI (min (mRD w p l r0 Y0 rock (d + 1)).1 (ix (w 1))) := by
          cases there with
          | true =>
            rw [hr', if_pos rfl, eR, if_pos rfl, Nat.min_eq_right (hth'.mp rfl), ← w1.1]
            exact ite_self _
          | false =>
            have hmin : ∀ n, w 1 = nI n → n < 1000 → (if w 1 < nI (mRD w p l r0 Y0 rock (d + 1)).1 then w 1 else nI (mRD w p l r0 Y0 rock (d + 1)).1) = nI (min (mRD w p l r0 Y0 rock (d + 1)).1 n) := by
              intro n e hn
              rw [e]
              split
              · rename_i g
                have g := (nI_ltI (by omega) (by omega)).mp g
                rw [Nat.min_eq_right (by omega)]
              · rename_i g
                have g : ¬ n < (mRD w p l r0 Y0 rock (d + 1)).1 := fun q => g ((nI_ltI (by omega) (by omega)).mpr q)
                rw [Nat.min_eq_left (by omega)]
            rw [hr', if_neg (show ¬ false = true from fun q => nomatch q)]
            exact hmin _ w1.1 (by omega)
        apply h109
        refine ⟨u1, _, u2, B, u4, hL2.k, _, hL2.r1, hL2.sn.1.1, fun x55 e55 => ?_⟩
        rw [eS, ex] at e55
        rw [i1]
        refine ⟨inA_of u5 (by omega) (by omega), fun M57 e57 => ?_⟩
        rw [ix_nI (by omega), e55] at e57
        obtain ⟨s1, s2, s3⟩ := step (M1 := M2) (a := q + 1) (k := Y0 + (d + 1)) (x := nI (min (mRD w p l r0 Y0 rock (d + 1)).1 (ix (w 1)))) (Or.inr (Or.inl rfl)) hs2 hj2 hc2
        rw [← e57] at s1 s2 s3
        have hL5 := s3.1.1
        obtain ⟨x1, x2, x3, x4, x5, x6⟩ := hL5.trip hq
        have g2 : iv M57 q 2 = nI Y0 := by rw [e57, iv_sIa (by omega)]; exact f2
        have g3 : iv M57 q 3 = mOutC (mO w p l r0 Y0 rock d) := by rw [e57, iv_sIa (by omega)]; exact f3
        have gv : ∀ e, e ≤ d → iv M57 (q + 1) (Y0 + e) = nI (min (mRD w p l r0 Y0 rock e).1 (ix (w 1))) ∧ iv M57 (q + 2) (Y0 + e) = (mRD w p l r0 Y0 rock e).2 := by
          intro e he
          rw [e57, iv_sIk (by omega), iv_sIa (by omega)]
          exact fv e he
        have gn : iv M57 (q + 1) (Y0 + (d + 1)) = nI (min (mRD w p l r0 Y0 rock (d + 1)).1 (ix (w 1))) := by rw [e57, iv_sIe]
        have lst := fun r9 h9 => last there M57 s1 s2 s3 g2 g3 gv gn hth r9 h9
        have lst := lst r' (fun e => by rw [hr', e]; rfl)
        refine ⟨x1, _, x3, ?_⟩
        cases there with
        | false =>
          rw [eR, if_neg (by decide)] at lst
          have hnl : ¬ ix (w 1) ≤ (mRD w p l r0 Y0 rock d).1 := fun q => by have := hth'.mpr q; cases this
          rw [if_pos (show bI false = 0 from rfl)]
          cases rock with
          | true =>
            rw [if_neg (show ¬ bI true = 0 by decide)]
            exact lst
          | false =>
            rw [if_pos (show bI false = 0 from rfl)]
            refine ⟨B, x4, hL5.k, _, hL5.r1, _, x3, inA_of x6 (by omega) (by omega), _, x2, inA_of x5 (by omega) (by omega), hL5.sn.1.1, ?_⟩
            rw [ix_nI (by omega), (gv d (Nat.le_refl _)).1, (gv d (Nat.le_refl _)).2, Nat.min_eq_left (by omega)]
            exact s_X3_sinks hL5.sn s3.1.2.1 hw.1.2.2.2.2.2.2.2.2.2.1 s3.1.2.2.2.1 (by omega) (by omega) lst
        | true =>
          rw [eR, if_pos rfl] at lst
          rw [if_neg (show ¬ bI true = 0 by decide)]
          refine ⟨_, x3, inA_of x6 (by omega) (by omega), ?_⟩
          rw [ix_nI (by omega), (gv d (Nat.le_refl _)).2]
          exact lst
      apply h28
      rw [nI_1, if_neg (show ¬ (300 : Int32) ≤ nI (Y0 + d + 1) from nI_ge (b := 300) (by omega) (by omega))]
      refine ⟨t1, ?_⟩
      rw [e3]
      split
      · rename_i g
        have hn9 := (mOutC_ne (hmO d (by omega))).mp g
        have hlt := (mO_none d).mp hn9
        apply h52
        rw [if_pos rfl]
        refine ⟨t1, B, t4, hL.k, _, hL.r1, _, t2, inA_of t5 (by omega) (by omega), B, t4, _, t2, inA_of t5 (by omega) (by omega), hL.k, ?_⟩
        rw [ix_nI (by omega), vd.1, Nat.min_eq_left (by omega)]
        refine s_X1_flowOf' hc hl (by omega) (by omega) fun M34 hs34 hj34 hc34 => ?_
        have hL34 := hc34.1.1
        have nbF := mFl_nb (w := w) (p := p) (l := l) (r := (mRD w p l r0 Y0 rock d).1) (Y := Y0 + d)
        have e5 : iv M34 (B + 85) 12 = nI (ix (w 5)) := by rw [← hw.1.2.2.2.2.2.1.1]; exact hc34.1.2.1.1.2.2.2.2.2.1
        refine ⟨hL34.sn.1.1, ?_⟩
        rw [nbF.1, nI_add]
        refine s_X3_flooded hL34.sn hw.cnt.2.2.2.1 e5 hc34.1.2.1.2.2.1 hw.2.2.1 (by have := nbF.2.2; omega) ?_
        have hs34' : sm [B, B + 94, B + 248, q, q + 1, q + 2] M M34 := hs.tr (hs34.wk (by simp))
        have nin : ∀ a, B + 242 ≤ a → a ≤ B + 247 → a ∉ [B + 94, B + 248, B] := fun a h1 h2 h3 => by simp at h3; omega
        refine mid false M34 hs34' (fun j hj9 => by rw [hj34 j hj9]; exact hj j hj9) hc34 (by rw [hs34.2.2.2.2 q (nin _ (by omega) (by omega))]; exact e2) (by rw [hs34.2.2.2.2 q (nin _ (by omega) (by omega))]; exact e3) (fun e he => by rw [hs34.2.2.2.2 (q + 1) (nin _ (by omega) (by omega)), hs34.2.2.2.2 (q + 2) (nin _ (by omega) (by omega))]; exact hv e he) ⟨(fun q => nomatch q), fun q => absurd hn9 q⟩ _ ?_
        rw [if_neg (by decide)]
        congr 1
        conv => rhs; unfold mRD
        rw [if_neg (by omega)]
      · rename_i g
        have hn9 : mO w p l r0 Y0 rock d ≠ none := fun e => g ((mOutC_ne (hmO d (by omega))).mpr e)
        apply h52
        rw [if_neg (by decide)]
        refine ⟨t1, B, t4, hL.k, _, hL.r1, hL.sn.1.1, ?_⟩
        rw [(show iv M1 (B + 85) 10 = w 1 from hc.1.2.1.1.2.1)]
        exact mid true M1 hs hj hc e2 e3 hv ⟨fun _ => hn9, fun _ => rfl⟩ _ rfl
  -- the begin
  obtain ⟨t1, t2, t3, t4, t5, t6⟩ := h.1.1.trip hq
  refine ⟨t1, fun M2 e2 => ?_⟩
  obtain ⟨a1, a2, a3⟩ := step (M1 := M) (a := q) (k := 2) (x := nI Y0) (Or.inl rfl) sm.rf (fun _ _ => rfl) h
  rw [← e2] at a1 a2 a3
  refine ⟨(a3.1.1.trip hq).1, fun M4 e4 => ?_⟩
  obtain ⟨b1, b2, b3⟩ := step (M1 := M2) (a := q) (k := 3) (x := 2147483647) (Or.inl rfl) a1 a2 a3
  rw [← e4] at b1 b2 b3
  obtain ⟨u1, u2, u3, u4, u5, u6⟩ := b3.1.1.trip hq
  refine ⟨u1, _, u2, inA_of u5 hY0 (by omega), fun M9 e9 => ?_⟩
  rw [ix_nI (by omega)] at e9
  obtain ⟨c1, c2, c3⟩ := step (M1 := M4) (a := q + 1) (k := Y0) (x := nI r0) (Or.inr (Or.inl rfl)) b1 b2 b3
  rw [← e9] at c1 c2 c3
  obtain ⟨v1, v2, v3, v4, v5, v6⟩ := c3.1.1.trip hq
  refine ⟨v1, _, v3, inA_of v6 hY0 (by omega), fun M14 e14 => ?_⟩
  rw [ix_nI (by omega)] at e14
  obtain ⟨d1, d2, d3⟩ := step (M1 := M9) (a := q + 2) (k := Y0) (x := 0) (Or.inr (Or.inr rfl)) c1 c2 c3
  rw [← e14] at d1 d2 d3
  refine key (299 - Y0) 0 M14 (by omega) d1 d2 d3 ?_ ?_ (fun e he => ?_)
  · rw [e14, iv_sIa (by omega), e9, iv_sIa (by omega), e4, iv_sIk (by omega), e2, iv_sIe]
  · rw [e14, iv_sIa (by omega), e9, iv_sIa (by omega), e4, iv_sIe, mO_none 0 |>.mpr hr0]; rfl
  · rw [show e = 0 by omega, e14, iv_sIa (by omega), e9]
    refine ⟨?_, ?_⟩
    · refine Eq.trans (iv_sIe (k := Y0)) ?_
      show nI r0 = nI (min r0 (ix (w 1)))
      rw [Nat.min_eq_left (by omega)]
    · exact Eq.trans (iv_sIe (k := Y0)) rfl
