/-! PLAIN LAW 10: ways of what is thrown in -/
/-- row and depth after d years -/
def mRD (w : Nat → Int32) (p : Nat → gCond) (l r0 Y0 : Nat) (rock : Bool) : Nat → Nat × Int32
  | 0 => (r0, 0)
  | d + 1 =>
    if ix (w 1) ≤ (mRD w p l r0 Y0 rock d).1 then mRD w p l r0 Y0 rock d
    else (mFld w (Y0 + d) ((mRD w p l r0 Y0 rock d).1 + ix (mFl w p l (mRD w p l r0 Y0 rock d).1 (Y0 + d))) (ix (w 5)), if rock then 0 else mSk w (mRD w p l r0 Y0 rock d).2 (mRD w p l r0 Y0 rock d).1 (Y0 + d))
/-- the year in which it is out, if it is by then -/
def mO (w : Nat → Int32) (p : Nat → gCond) (l r0 Y0 : Nat) (rock : Bool) : Nat → Option Nat
  | 0 => if ix (w 1) ≤ r0 then some Y0 else none
  | d + 1 => match mO w p l r0 Y0 rock d with
    | some o => some o
    | none => if ix (w 1) ≤ (mRD w p l r0 Y0 rock (d + 1)).1 then some (Y0 + (d + 1)) else none
section WAY
variable {w : Nat → Int32} {p : Nat → gCond} {l r0 Y0 : Nat} {rock : Bool}
theorem mO_none : ∀ d, mO w p l r0 Y0 rock d = none ↔ (mRD w p l r0 Y0 rock d).1 < ix (w 1) := by
  intro d
  induction d with
  | zero => unfold mO; split <;> simp [mRD] <;> omega
  | succ d ih =>
    cases hc : mO w p l r0 Y0 rock d with
    | some o =>
      have e : mO w p l r0 Y0 rock (d + 1) = some o := by unfold mO; rw [hc]
      rw [e]
      have h1 : ¬ (mRD w p l r0 Y0 rock d).1 < ix (w 1) := fun q => by rw [ih.mpr q] at hc; cases hc
      have e2 : mRD w p l r0 Y0 rock (d + 1) = mRD w p l r0 Y0 rock d := by
        show (if ix (w 1) ≤ (mRD w p l r0 Y0 rock d).1 then mRD w p l r0 Y0 rock d else _) = _
        rw [if_pos (by omega)]
      rw [e2]
      exact ⟨(fun q => nomatch q), fun q => absurd q h1⟩
    | none =>
      have e : mO w p l r0 Y0 rock (d + 1) = if ix (w 1) ≤ (mRD w p l r0 Y0 rock (d + 1)).1 then some (Y0 + (d + 1)) else none := by
        show (match mO w p l r0 Y0 rock d with | some o => some o | none => _) = _
        rw [hc]
      rw [e]
      split
      · rename_i g; exact ⟨(fun q => nomatch q), fun q => by omega⟩
      · rename_i g; exact ⟨fun _ => by omega, fun _ => rfl⟩
theorem mO_some : ∀ d o, mO w p l r0 Y0 rock d = some o → Y0 ≤ o ∧ o ≤ Y0 + d ∧ ix (w 1) ≤ (mRD w p l r0 Y0 rock (o - Y0)).1 ∧ ∀ e, e < o - Y0 → (mRD w p l r0 Y0 rock e).1 < ix (w 1) := by
  intro d
  induction d with
  | zero =>
    intro o h
    unfold mO at h
    split at h
    · rename_i g
      injection h with h
      subst h
      exact ⟨by omega, by omega, by rw [Nat.sub_self]; exact g, fun e he => by omega⟩
    · cases h
  | succ d ih =>
    intro o h
    cases hc : mO w p l r0 Y0 rock d with
    | some o2 =>
      have e : mO w p l r0 Y0 rock (d + 1) = some o2 := by unfold mO; rw [hc]
      rw [e] at h
      injection h with h
      subst h
      obtain ⟨h1, h2, h3, h4⟩ := ih o2 hc
      exact ⟨h1, by omega, h3, h4⟩
    | none =>
      have e : mO w p l r0 Y0 rock (d + 1) = if ix (w 1) ≤ (mRD w p l r0 Y0 rock (d + 1)).1 then some (Y0 + (d + 1)) else none := by
        show (match mO w p l r0 Y0 rock d with | some o => some o | none => _) = _
        rw [hc]
      rw [e] at h
      split at h
      · rename_i g
        injection h with h
        subst h
        refine ⟨by omega, by omega, by rw [show Y0 + (d + 1) - Y0 = d + 1 by omega]; exact g, fun e he => ?_⟩
        rcases Nat.lt_or_ge (mRD w p l r0 Y0 rock e).1 (ix (w 1)) with q | q
        · exact q
        · exfalso
          have hs : ∀ f, e + f ≤ d → mRD w p l r0 Y0 rock (e + f) = mRD w p l r0 Y0 rock e := by
            intro f
            induction f with
            | zero => intro _; rfl
            | succ f ihf =>
              intro hf
              show (if ix (w 1) ≤ (mRD w p l r0 Y0 rock (e + f)).1 then mRD w p l r0 Y0 rock (e + f) else _) = _
              rw [ihf (by omega), if_pos q]
          have h5 := (mO_none d).mp hc
          have h6 := hs (d - e) (by omega)
          rw [show e + (d - e) = d by omega] at h6
          rw [h6] at h5
          omega
      · cases h
theorem mRD_le (hw : Wf w) (h0 : r0 < 99) : ∀ d, (mRD w p l r0 Y0 rock d).1 ≤ 288 := by
  intro d
  induction d with
  | zero => show r0 ≤ 288; omega
  | succ d ih =>
    unfold mRD
    split
    · exact ih
    · rename_i g
      have h1 := (mFld_le (w := w) (Y := Y0 + d) (r := (mRD w p l r0 Y0 rock d).1 + ix (mFl w p l (mRD w p l r0 Y0 rock d).1 (Y0 + d))) (fun k hk => (hw.2.2.1 k hk).2.2.2) (ix (w 5)) (Nat.le_refl _)).2
      have h2 := (mFl_nb (w := w) (p := p) (l := l) (r := (mRD w p l r0 Y0 rock d).1) (Y := Y0 + d)).2.2
      have h3 := hw.1.2.1.2.2
      have h4 := hw.cnt
      show mFld _ _ _ _ ≤ 288
      omega
end WAY
def mOutC (o : Option Nat) : Int32 := match o with | none => 2147483647 | some y => nI y
def mOutT (o : Option Nat) : Int32 := match o with | none => -1 | some y => nI y
