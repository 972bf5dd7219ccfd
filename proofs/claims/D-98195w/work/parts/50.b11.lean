/-! PLAIN LAW 11: trips of the component -/
/-- the law's objects lie above all else -/
def LwK (M : gM) (B : Nat) (w : Nat → Int32) (p : Nat → gCond) : Prop :=
  ∀ M', kd M' = kd M → rv M' = rv M → (∀ a, B + 1208 ≤ a → iv M' a = iv M a) → iv M' (B + 85) 16 = iv M (B + 85) 16 → LwC M' (B + 85) w p
def CN (M : gM) (B : Nat) (w : Nat → Int32) (p : Nat → gCond) : Prop := CNow M B w p ∧ LwK M B w p
/-- what a reckoning of the component may write -/
def inW (B a : Nat) : Prop := a = B ∨ a = B + 94 ∨ (B + 242 ≤ a ∧ a ≤ B + 252)
theorem LwK.sm {M M' : gM} {W : List Nat} {B : Nat} {w : Nat → Int32} {p : Nat → gCond} (h : LwK M B w p) (g : sm W M M') (hW : ∀ a, a ∈ W → inW B a) : LwK M' B w p := by
  intro M2 h1 h2 h3 h4
  refine h M2 (h1.trans g.1) (h2.trans g.2.1) (fun a ha => (h3 a ha).trans (g.2.2.2.2 a fun q => ?_)) (h4.trans (congrFun (g.2.2.2.2 _ fun q => ?_) 16))
  · have := hW a q; unfold inW at this; omega
  · have := hW _ q; unfold inW at this; omega
theorem LwK.at {M : gM} {B : Nat} {w : Nat → Int32} {p : Nat → gCond} (h : LwK M B w p) : LwC M (B + 85) w p := h M rfl rfl (fun _ _ => rfl) rfl
theorem CN.sm {M M' : gM} {W : List Nat} {B : Nat} {w : Nat → Int32} {p : Nat → gCond} (h : CN M B w p) (g : sm W M M') (hW : ∀ a, a ∈ W → inW B a) (hF : CFl M' B w p) : CN M' B w p := by
  obtain ⟨⟨h1, h2, h3, h4, h5, h6⟩, h7⟩ := h
  refine ⟨⟨h1.sm g, h2.sm g (fun a ha => ?_) h3.cnt, h3, fun k hk => ?_, h5, hF⟩, h7.sm g hW⟩
  · have := hW a ha; unfold inW at this; omega
  · rw [g.2.2.2.2 _ (fun q => by have := hW _ q; unfold inW at this; omega)]; exact h4 k hk
theorem CFl.same {M M' : gM} {B : Nat} {w : Nat → Int32} {p : Nat → gCond} (h : CFl M B w p) (e1 : iv M' B 14 = iv M B 14) (e2 : iv M' (B + 248) = iv M (B + 248)) : CFl M' B w p := by
  unfold CFl
  rw [e1, e2]
  exact h
/-- a trip tells a way -/
def TripIs (M : gM) (q : Nat) (w : Nat → Int32) (p : Nat → gCond) (l r0 Y0 : Nat) (rock : Bool) : Prop :=
  iv M q 2 = nI Y0 ∧ iv M q 3 = mOutC (mO w p l r0 Y0 rock (299 - Y0)) ∧ ∀ d, Y0 + d < 300 → iv M (q + 1) (Y0 + d) = nI (min (mRD w p l r0 Y0 rock d).1 (ix (w 1))) ∧ iv M (q + 2) (Y0 + d) = (mRD w p l r0 Y0 rock d).2
theorem s_X1_flowOf' {M : gM} {B l r Y : Nat} {w : Nat → Int32} {p : Nat → gCond} {K : Int32 → gM → Prop} (h : CN M B w p) (hl : l < ix (w 0)) (hr : r < 99) (hY : Y < 300) (hk : ∀ M', sm [B + 94, B + 248, B] M M' → (∀ j, j ≠ 14 → iv M' B j = iv M B j) → CN M' B w p → K (mFl w p l r Y) M') : f_X1_flowOf B (nI l) (nI r) (nI Y) M K := by
  have hW : ∀ a, a ∈ [B + 94, B + 248, B] → inW B a := by simp [inW] 
  exact s_X1_flowOf h.1 (fun M' g => (h.2.sm g hW).at) hl hr hY fun M' g hj hF => hk M' g hj (h.sm g hW hF)
theorem mOutC_ne {o : Option Nat} (h : ∀ y, o = some y → y < 300) : mOutC o = 2147483647 ↔ o = none := by
  cases o with
  | none => exact ⟨fun _ => rfl, fun _ => rfl⟩
  | some y =>
    have := h y rfl
    refine ⟨fun e => ?_, (fun e => nomatch e)⟩
    have e := congrArg Int32.toInt (show nI y = 2147483647 from e)
    rw [nI_toInt (by omega), (show (2147483647 : Int32).toInt = 2147483647 by decide)] at e
    omega
