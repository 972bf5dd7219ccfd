/-! PLAIN LAW 7: flows -/
theorem s_is {M : gM} {L fa : Nat} {kind n : Int32} {p : gCond} {K : Int32 → gM → Prop} (h : LnC M L kind n p) (hf : kd M fa = some (.inr (0, 10))) (hk : K (bI (p (iv M fa))) M) : f_is L fa M K := by
  have hc : ((rv M L 0) = none → K 1 M) ∧ (∀ b3, (rv M L 0) = some b3 → f_holds b3 fa M (fun x5 M4 => if x5 = 0 then K 0 M4 else K 1 M4)) := by
    rcases h.2 with ⟨h1, h2⟩ | ⟨c, h1, h2⟩
    · refine ⟨fun _ => ?_, fun b3 e => by rw [h1] at e; cases e⟩
      rw [h2] at hk
      exact hk
    · refine ⟨(fun e => by rw [h1] at e; cases e), fun b3 e => ?_⟩
      rw [h1] at e
      cases e
      refine s_fx_holds hf 22 c p _ h2 ?_
      cases hb : p (iv M fa) <;> rw [hb] at hk <;> exact hk
  rcases h.1 with ⟨-, h1, -⟩ | ⟨-, h1, -⟩ | ⟨-, h1⟩
  · exact Or.inl ⟨h1, h1, hc⟩
  · exact Or.inl ⟨h1, h1, hc⟩
  · exact Or.inr ⟨h1, h1, hc⟩
theorem s_faster {M : gM} {L : Nat} {kind n : Int32} {p : gCond} {K : Int32 → gM → Prop} (h : LnC M L kind n p) (hk : K (if kind = 0 then n else if kind = 1 then -n else 0) M) : f_faster L M K := by
  rcases h.1 with ⟨e, h1, h2⟩ | ⟨e, h1, h2⟩ | ⟨e, h1⟩
  · rw [if_pos e] at hk; exact Or.inl ⟨h1, h1, by rw [h2]; exact hk⟩
  · rw [e, if_neg (by decide), if_pos rfl] at hk; exact Or.inl ⟨h1, h1, by rw [h2]; exact hk⟩
  · rw [e, if_neg (by decide), if_neg (by decide)] at hk; exact Or.inr ⟨h1, hk⟩
theorem s_opens {M : gM} {L : Nat} {kind n : Int32} {p : gCond} {K : Int32 → gM → Prop} (h : LnC M L kind n p) (hk : K (bI (decide (kind = 2))) M) : f_opens L M K := by
  rcases h.1 with ⟨e, h1, h2⟩ | ⟨e, h1, h2⟩ | ⟨e, h1⟩
  · rw [e] at hk; exact Or.inl ⟨h1, hk⟩
  · rw [e] at hk; exact Or.inl ⟨h1, hk⟩
  · rw [e] at hk; exact Or.inr ⟨h1, hk⟩
/-- the law's objects lie above s' State: nothing of them is changed -/
theorem SumC.sm {M M' : gM} {W : List Nat} {h0 : Nat} (g : sm W M M') (hW : ∀ a, a ∈ W → a < h0) {a : Nat} {u : (Nat → Int32) → Int32} (hb : ∀ t, rv M a 0 = some t → h0 ≤ t) (ha : h0 ≤ a) (h : SumC M a u) : SumC M' a u := by
  obtain ⟨h1, t, h2, h3, h4⟩ := h
  refine ⟨by rw [g.1]; exact h1, t, by rw [g.2.1]; exact h2, by rw [g.1]; exact h3, fun φ => ?_⟩
  rw [g.2.2.2.2 a (fun q => by have := hW a q; omega), g.2.2.2.2 t (fun q => by have := hW t q; have := hb t h2; omega)]
  exact h4 φ
theorem i32_acc (a b c x y : Int32) : a + b - c + (x - y) = a + (b + x) - (c + y) := by grind
theorem s_X3_flow {M : gM} {s l r Y : Nat} {w : Nat → Int32} {p : Nat → gCond} {K : Int32 → gM → Prop} (hL : LSt M s) (hS : Shw M s w) (hw : Wf w) (hH : Hts M (s + 8) (w 13)) (hT : LwT w p) (hC : ∀ M', sm [s + 9] M M' → LwC M' s w p) (hl : l < ix (w 0)) (hY : Y < 300) (hk : ∀ M', sm [s + 9] M M' → K (mFl w p l r Y) M') : f_X3_flow s (nI l) (nI r) (nI Y) M K := by
  intro P hP
  refine ⟨hL.1.1, s_X3_speed hL hS hw hl ⟨hL.1.1, s_X3_tells hL hS.1.1 hS.1.2.2.2.2.2.2.2.2.2.2.2.1 hH hY fun M5 hsm hv => ?_⟩⟩
  have hL5 := hL.sm hsm
  have hC5 := hC M5 hsm
  have k9 := hL5.1.2.2.2.2.2.2.2.2.2.2
  have r9 := hL5.1.2.1.2.2.2.2.2.2.2.2
  have r6 := hL5.1.2.1.2.2.2.2.2.1
  have k6 := hL5.1.2.2.2.2.2.2.2.1
  have hm := mMany_le hT
  have hkM := hk M5 hsm
  unfold mFl at hkM
  generalize mSp w l (nI r) (ix (w 2)) = sp at *
  have key : ∀ d a, a + d = mMany w → P s (sp + mSumK w p (mPhi w (nI l) (nI r) Y sp 0 0 0) 0 a - mSumK w p (mPhi w (nI l) (nI r) Y sp 0 0 0) 1 a) (nI a) M5 := by
    intro d
    induction d with
    | zero =>
      intro a had
      apply hP
      refine ⟨hL5.1.1, ?_⟩
      rw [hC5.1, if_pos, show a = mMany w by omega]
      · intro x hx y hy
        rw [hy, hx]
        exact hkM
      · by_cases g : w 8 = 1
        · have := (hT.2.1 g)
          have e : mMany w = ix (w 395) := if_pos g
          rw [if_pos g, this.1]
          exact nI_le (by omega) (by omega)
        · rw [if_neg g]
          have := nI_pos' (n := a) (by omega)
          exact Int32.le_trans (by decide) this
    | succ d ih =>
      intro a had
      have hi := ih (a + 1) (by omega)
      have g8 : w 8 = 1 := by
        unfold mMany at had
        split at had
        · assumption
        · omega
      have hma : mMany w = ix (w 395) := if_pos g8
      obtain ⟨L, hLr, hLn⟩ := hC5.2 a (by omega)
      have hl9 := hT.2.2 a (by omega)
      have ext : p a (iv M5 (s + 9)) = p a (mPhi w (nI l) (nI r) Y sp 0 0 0) := hl9.2.2.2.1 _ _ hv
      apply hP
      refine ⟨hL5.1.1, ?_⟩
      rw [hC5.1, if_pos g8, (hT.2.1 g8).1, if_neg (nI_ge (by omega) (by omega))]
      refine ⟨_, r6, inA_of k6 (by omega) (by omega), L, by rw [ix_nI (by omega)]; exact hLr, _, r9, s_is hLn k9 ?_⟩
      rw [ext, nI_1]
      unfold mSumK at hi
      cases hb : p a (mPhi w (nI l) (nI r) Y sp 0 0 0) with
      | false =>
        rw [if_neg (by simp [hb]), if_neg (by simp [hb])] at hi
        rw [if_pos (show bI false = 0 from rfl)]
        simp only [Int32.add_zero] at hi ⊢
        exact hi
      | true =>
        rw [if_neg (show ¬ bI true = 0 by decide)]
        refine ⟨hL5.1.1, _, r6, inA_of k6 (by omega) (by omega), L, by rw [ix_nI (by omega)]; exact hLr, s_faster hLn ?_⟩
        rcases hl9.1 with e | e | e
        · rw [if_pos e]
          rw [if_pos ⟨e, hb⟩, if_neg (by rw [e]; simp)] at hi
          have := i32_acc sp (mSumK w p (mPhi w (nI l) (nI r) Y sp 0 0 0) 0 a) (mSumK w p (mPhi w (nI l) (nI r) Y sp 0 0 0) 1 a) (w (397 + 4 * a)) 0
          rw [← this, Int32.sub_zero] at hi
          exact hi
        · rw [e, if_neg (by decide), if_pos rfl]
          rw [if_neg (by rw [e]; simp), if_pos ⟨e, hb⟩] at hi
          have := i32_acc sp (mSumK w p (mPhi w (nI l) (nI r) Y sp 0 0 0) 0 a) (mSumK w p (mPhi w (nI l) (nI r) Y sp 0 0 0) 1 a) 0 (w (397 + 4 * a))
          rw [← this, Int32.zero_sub] at hi
          exact hi
        · rw [e, if_neg (by decide), if_neg (by decide)]
          rw [if_neg (by rw [e]; simp), if_neg (by rw [e]; simp)] at hi
          simp only [Int32.add_zero] at hi ⊢
          exact hi
  have := key (mMany w) 0 (by omega)
  simp only [mSumK, Int32.add_zero, Int32.sub_zero] at this
  exact this
