/-! PLAIN LAW 8: the shape of the component; caches of flows (head printed by gen/mkb8.py) -/
/-- the component at B: its cells one behind the other -/
def LC (M : gM) (B : Nat) : Prop :=
  (kd M (B) = some (.inl 1)) ∧
  (kd M (B + 1) = some (.inl 2)) ∧
  (kd M (B + 2) = some (.inr (1, 400))) ∧
  (kd M (B + 3) = some (.inr (3, 8))) ∧
  (kd M (B + 4) = some (.inr (3, 2))) ∧
  (kd M (B + 5) = some (.inr (4, 12))) ∧
  (kd M (B + 84) = some (.inl 8)) ∧
  (kd M (B + 241) = some (.inr (9, 12))) ∧
  (kd M (B + 242) = some (.inl 9)) ∧
  (kd M (B + 243) = some (.inr (0, 300))) ∧
  (kd M (B + 244) = some (.inr (0, 300))) ∧
  (kd M (B + 245) = some (.inl 9)) ∧
  (kd M (B + 246) = some (.inr (0, 300))) ∧
  (kd M (B + 247) = some (.inr (0, 300))) ∧
  (kd M (B + 248) = some (.inr (0, 29700))) ∧
  (kd M (B + 249) = some (.inr (0, 2400))) ∧
  (kd M (B + 250) = some (.inr (0, 2400))) ∧
  (kd M (B + 251) = some (.inr (0, 180))) ∧
  (kd M (B + 252) = some (.inr (0, 186))) ∧
  (rv M (B) 0 = some (B + 1)) ∧
  (rv M (B) 1 = some (B + 85)) ∧
  (rv M (B) 2 = some (B + 163)) ∧
  (rv M (B) 3 = some (B + 241)) ∧
  (rv M (B) 4 = some (B + 242)) ∧
  (rv M (B) 5 = some (B + 245)) ∧
  (rv M (B) 6 = some (B + 248)) ∧
  (rv M (B) 7 = some (B + 249)) ∧
  (rv M (B) 8 = some (B + 250)) ∧
  (rv M (B) 9 = some (B + 251)) ∧
  (rv M (B) 10 = some (B + 252)) ∧
  (rv M (B + 1) 0 = some (B + 2)) ∧
  (rv M (B + 1) 1 = some (B + 3)) ∧
  (rv M (B + 1) 2 = some (B + 4)) ∧
  (rv M (B + 1) 3 = some (B + 5)) ∧
  (rv M (B + 1) 4 = some (B + 6)) ∧
  (rv M (B + 1) 5 = some (B + 84)) ∧
  (rv M (B + 242) 0 = some (B + 243)) ∧
  (rv M (B + 242) 1 = some (B + 244)) ∧
  (rv M (B + 242) 4 = some (B)) ∧
  (rv M (B + 245) 0 = some (B + 246)) ∧
  (rv M (B + 245) 1 = some (B + 247)) ∧
  (rv M (B + 245) 4 = some (B)) ∧
  (LSt M (B + 6)) ∧
  (LSt M (B + 85)) ∧
  (LSt M (B + 163)) ∧
  (∀ k, k < 12 → rv M (B + 241) k = some (B + 253 + 78 * k) ∧ LSt M (B + 253 + 78 * k))
theorem LC.k {M : gM} {B : Nat} (h : LC M B) : kd M (B) = some (.inl 1) := h.1
theorem LC.kr {M : gM} {B : Nat} (h : LC M B) : kd M (B + 1) = some (.inl 2) := h.2.1
theorem LC.kt {M : gM} {B : Nat} (h : LC M B) : kd M (B + 2) = some (.inr (1, 400)) := h.2.2.1
theorem LC.kw {M : gM} {B : Nat} (h : LC M B) : kd M (B + 3) = some (.inr (3, 8)) := h.2.2.2.1
theorem LC.kg {M : gM} {B : Nat} (h : LC M B) : kd M (B + 4) = some (.inr (3, 2)) := h.2.2.2.2.1
theorem LC.ko {M : gM} {B : Nat} (h : LC M B) : kd M (B + 5) = some (.inr (4, 12)) := h.2.2.2.2.2.1
theorem LC.kz {M : gM} {B : Nat} (h : LC M B) : kd M (B + 84) = some (.inl 8) := h.2.2.2.2.2.2.1
theorem LC.ka {M : gM} {B : Nat} (h : LC M B) : kd M (B + 241) = some (.inr (9, 12)) := h.2.2.2.2.2.2.2.1
theorem LC.k1 {M : gM} {B : Nat} (h : LC M B) : kd M (B + 242) = some (.inl 9) := h.2.2.2.2.2.2.2.2.1
theorem LC.k1r {M : gM} {B : Nat} (h : LC M B) : kd M (B + 243) = some (.inr (0, 300)) := h.2.2.2.2.2.2.2.2.2.1
theorem LC.k1d {M : gM} {B : Nat} (h : LC M B) : kd M (B + 244) = some (.inr (0, 300)) := h.2.2.2.2.2.2.2.2.2.2.1
theorem LC.k2 {M : gM} {B : Nat} (h : LC M B) : kd M (B + 245) = some (.inl 9) := h.2.2.2.2.2.2.2.2.2.2.2.1
theorem LC.k2r {M : gM} {B : Nat} (h : LC M B) : kd M (B + 246) = some (.inr (0, 300)) := h.2.2.2.2.2.2.2.2.2.2.2.2.1
theorem LC.k2d {M : gM} {B : Nat} (h : LC M B) : kd M (B + 247) = some (.inr (0, 300)) := h.2.2.2.2.2.2.2.2.2.2.2.2.2.1
theorem LC.kf {M : gM} {B : Nat} (h : LC M B) : kd M (B + 248) = some (.inr (0, 29700)) := h.2.2.2.2.2.2.2.2.2.2.2.2.2.2.1
theorem LC.ku {M : gM} {B : Nat} (h : LC M B) : kd M (B + 249) = some (.inr (0, 2400)) := h.2.2.2.2.2.2.2.2.2.2.2.2.2.2.2.1
theorem LC.kx {M : gM} {B : Nat} (h : LC M B) : kd M (B + 250) = some (.inr (0, 2400)) := h.2.2.2.2.2.2.2.2.2.2.2.2.2.2.2.2.1
theorem LC.kl {M : gM} {B : Nat} (h : LC M B) : kd M (B + 251) = some (.inr (0, 180)) := h.2.2.2.2.2.2.2.2.2.2.2.2.2.2.2.2.2.1
theorem LC.ks {M : gM} {B : Nat} (h : LC M B) : kd M (B + 252) = some (.inr (0, 186)) := h.2.2.2.2.2.2.2.2.2.2.2.2.2.2.2.2.2.2.1
theorem LC.r0 {M : gM} {B : Nat} (h : LC M B) : rv M (B) 0 = some (B + 1) := h.2.2.2.2.2.2.2.2.2.2.2.2.2.2.2.2.2.2.2.1
theorem LC.r1 {M : gM} {B : Nat} (h : LC M B) : rv M (B) 1 = some (B + 85) := h.2.2.2.2.2.2.2.2.2.2.2.2.2.2.2.2.2.2.2.2.1
theorem LC.r2 {M : gM} {B : Nat} (h : LC M B) : rv M (B) 2 = some (B + 163) := h.2.2.2.2.2.2.2.2.2.2.2.2.2.2.2.2.2.2.2.2.2.1
theorem LC.r3 {M : gM} {B : Nat} (h : LC M B) : rv M (B) 3 = some (B + 241) := h.2.2.2.2.2.2.2.2.2.2.2.2.2.2.2.2.2.2.2.2.2.2.1
theorem LC.r4 {M : gM} {B : Nat} (h : LC M B) : rv M (B) 4 = some (B + 242) := h.2.2.2.2.2.2.2.2.2.2.2.2.2.2.2.2.2.2.2.2.2.2.2.1
theorem LC.r5 {M : gM} {B : Nat} (h : LC M B) : rv M (B) 5 = some (B + 245) := h.2.2.2.2.2.2.2.2.2.2.2.2.2.2.2.2.2.2.2.2.2.2.2.2.1
theorem LC.r6 {M : gM} {B : Nat} (h : LC M B) : rv M (B) 6 = some (B + 248) := h.2.2.2.2.2.2.2.2.2.2.2.2.2.2.2.2.2.2.2.2.2.2.2.2.2.1
theorem LC.r7 {M : gM} {B : Nat} (h : LC M B) : rv M (B) 7 = some (B + 249) := h.2.2.2.2.2.2.2.2.2.2.2.2.2.2.2.2.2.2.2.2.2.2.2.2.2.2.1
theorem LC.r8 {M : gM} {B : Nat} (h : LC M B) : rv M (B) 8 = some (B + 250) := h.2.2.2.2.2.2.2.2.2.2.2.2.2.2.2.2.2.2.2.2.2.2.2.2.2.2.2.1
theorem LC.r9 {M : gM} {B : Nat} (h : LC M B) : rv M (B) 9 = some (B + 251) := h.2.2.2.2.2.2.2.2.2.2.2.2.2.2.2.2.2.2.2.2.2.2.2.2.2.2.2.2.1
theorem LC.r10 {M : gM} {B : Nat} (h : LC M B) : rv M (B) 10 = some (B + 252) := h.2.2.2.2.2.2.2.2.2.2.2.2.2.2.2.2.2.2.2.2.2.2.2.2.2.2.2.2.2.1
theorem LC.rr0 {M : gM} {B : Nat} (h : LC M B) : rv M (B + 1) 0 = some (B + 2) := h.2.2.2.2.2.2.2.2.2.2.2.2.2.2.2.2.2.2.2.2.2.2.2.2.2.2.2.2.2.2.1
theorem LC.rr1 {M : gM} {B : Nat} (h : LC M B) : rv M (B + 1) 1 = some (B + 3) := h.2.2.2.2.2.2.2.2.2.2.2.2.2.2.2.2.2.2.2.2.2.2.2.2.2.2.2.2.2.2.2.1
theorem LC.rr2 {M : gM} {B : Nat} (h : LC M B) : rv M (B + 1) 2 = some (B + 4) := h.2.2.2.2.2.2.2.2.2.2.2.2.2.2.2.2.2.2.2.2.2.2.2.2.2.2.2.2.2.2.2.2.1
theorem LC.rr3 {M : gM} {B : Nat} (h : LC M B) : rv M (B + 1) 3 = some (B + 5) := h.2.2.2.2.2.2.2.2.2.2.2.2.2.2.2.2.2.2.2.2.2.2.2.2.2.2.2.2.2.2.2.2.2.1
theorem LC.rr4 {M : gM} {B : Nat} (h : LC M B) : rv M (B + 1) 4 = some (B + 6) := h.2.2.2.2.2.2.2.2.2.2.2.2.2.2.2.2.2.2.2.2.2.2.2.2.2.2.2.2.2.2.2.2.2.2.1
theorem LC.rr5 {M : gM} {B : Nat} (h : LC M B) : rv M (B + 1) 5 = some (B + 84) := h.2.2.2.2.2.2.2.2.2.2.2.2.2.2.2.2.2.2.2.2.2.2.2.2.2.2.2.2.2.2.2.2.2.2.2.1
theorem LC.t0 {M : gM} {B : Nat} (h : LC M B) : rv M (B + 242) 0 = some (B + 243) := h.2.2.2.2.2.2.2.2.2.2.2.2.2.2.2.2.2.2.2.2.2.2.2.2.2.2.2.2.2.2.2.2.2.2.2.2.1
theorem LC.t1 {M : gM} {B : Nat} (h : LC M B) : rv M (B + 242) 1 = some (B + 244) := h.2.2.2.2.2.2.2.2.2.2.2.2.2.2.2.2.2.2.2.2.2.2.2.2.2.2.2.2.2.2.2.2.2.2.2.2.2.1
theorem LC.t4 {M : gM} {B : Nat} (h : LC M B) : rv M (B + 242) 4 = some (B) := h.2.2.2.2.2.2.2.2.2.2.2.2.2.2.2.2.2.2.2.2.2.2.2.2.2.2.2.2.2.2.2.2.2.2.2.2.2.2.1
theorem LC.u0 {M : gM} {B : Nat} (h : LC M B) : rv M (B + 245) 0 = some (B + 246) := h.2.2.2.2.2.2.2.2.2.2.2.2.2.2.2.2.2.2.2.2.2.2.2.2.2.2.2.2.2.2.2.2.2.2.2.2.2.2.2.1
theorem LC.u1 {M : gM} {B : Nat} (h : LC M B) : rv M (B + 245) 1 = some (B + 247) := h.2.2.2.2.2.2.2.2.2.2.2.2.2.2.2.2.2.2.2.2.2.2.2.2.2.2.2.2.2.2.2.2.2.2.2.2.2.2.2.2.1
theorem LC.u4 {M : gM} {B : Nat} (h : LC M B) : rv M (B + 245) 4 = some (B) := h.2.2.2.2.2.2.2.2.2.2.2.2.2.2.2.2.2.2.2.2.2.2.2.2.2.2.2.2.2.2.2.2.2.2.2.2.2.2.2.2.2.1
theorem LC.sd {M : gM} {B : Nat} (h : LC M B) : LSt M (B + 6) := h.2.2.2.2.2.2.2.2.2.2.2.2.2.2.2.2.2.2.2.2.2.2.2.2.2.2.2.2.2.2.2.2.2.2.2.2.2.2.2.2.2.2.1
theorem LC.sn {M : gM} {B : Nat} (h : LC M B) : LSt M (B + 85) := h.2.2.2.2.2.2.2.2.2.2.2.2.2.2.2.2.2.2.2.2.2.2.2.2.2.2.2.2.2.2.2.2.2.2.2.2.2.2.2.2.2.2.2.1
theorem LC.si {M : gM} {B : Nat} (h : LC M B) : LSt M (B + 163) := h.2.2.2.2.2.2.2.2.2.2.2.2.2.2.2.2.2.2.2.2.2.2.2.2.2.2.2.2.2.2.2.2.2.2.2.2.2.2.2.2.2.2.2.2.1
theorem LC.sa {M : gM} {B : Nat} (h : LC M B) : ∀ k, k < 12 → rv M (B + 241) k = some (B + 253 + 78 * k) ∧ LSt M (B + 253 + 78 * k) := h.2.2.2.2.2.2.2.2.2.2.2.2.2.2.2.2.2.2.2.2.2.2.2.2.2.2.2.2.2.2.2.2.2.2.2.2.2.2.2.2.2.2.2.2.2
theorem LC.sm {W : List Nat} {M M' : gM} {B : Nat} (h : LC M B) (g : sm W M M') : LC M' B := by
  unfold LC
  rw [g.1, g.2.1]
  exact ⟨h.k, h.kr, h.kt, h.kw, h.kg, h.ko, h.kz, h.ka, h.k1, h.k1r, h.k1d, h.k2, h.k2r, h.k2d, h.kf, h.ku, h.kx, h.kl, h.ks, h.r0, h.r1, h.r2, h.r3, h.r4, h.r5, h.r6, h.r7, h.r8, h.r9, h.r10, h.rr0, h.rr1, h.rr2, h.rr3, h.rr4, h.rr5, h.t0, h.t1, h.t4, h.u0, h.u1, h.u4, h.sd.sm g, h.sn.sm g, h.si.sm g, fun k hk => ⟨(h.sa k hk).1, (h.sa k hk).2.sm g⟩⟩
/-- what the component keeps of flows is true -/
def CFl (M : gM) (B : Nat) (w : Nat → Int32) (p : Nat → gCond) : Prop :=
  iv M B 14 = -1 ∨ ∃ l, l < ix (w 0) ∧ iv M B 14 = nI l ∧ ∀ r Y, r < 99 → Y < 300 → iv M (B + 248) (99 * Y + r) = -1 ∨ iv M (B + 248) (99 * Y + r) = mFl w p l r Y
/-- all that is known of the present State -/
def CNow (M : gM) (B : Nat) (w : Nat → Int32) (p : Nat → gCond) : Prop :=
  LC M B ∧ Shw M (B + 85) w ∧ Wf w ∧ Hts M (B + 93) (w 13) ∧ LwT w p ∧ CFl M B w p
theorem s_X1_flowOf {M : gM} {B l r Y : Nat} {w : Nat → Int32} {p : Nat → gCond} {K : Int32 → gM → Prop} (h : CNow M B w p) (hC : ∀ M', sm [B + 94, B + 248, B] M M' → LwC M' (B + 85) w p) (hl : l < ix (w 0)) (hr : r < 99) (hY : Y < 300) (hk : ∀ M', sm [B + 94, B + 248, B] M M' → (∀ j, j ≠ 14 → iv M' B j = iv M B j) → CFl M' B w p → K (mFl w p l r Y) M') : f_X1_flowOf B (nI l) (nI r) (nI Y) M K := by
  obtain ⟨hL, hS, hw, hH, hT, hF⟩ := h
  have l6 := hw.1.1.2.2
  intro P11 P40 h11 h40
  have ea : (99 : Int32) * nI Y + nI r = nI (99 * Y + r) := by rw [show (99 : Int32) = nI 99 from rfl, nI_mul, nI_add]
  have main : ∀ M1, sm [B + 94, B + 248, B] M M1 → (∀ j, j ≠ 14 → iv M1 B j = iv M B j) → iv M1 B 14 = nI l → (∀ r Y, r < 99 → Y < 300 → iv M1 (B + 248) (99 * Y + r) = -1 ∨ iv M1 (B + 248) (99 * Y + r) = mFl w p l r Y) → P40 B (nI l) (nI r) (nI Y) M1 := by
    intro M1 hsm h14 e14 hfl
    have hL1 := hL.sm hsm
    apply h40
    refine ⟨hL1.k, _, hL1.r6, by rw [ea]; exact inA_of hL1.kf (by omega) (by omega), ?_⟩
    rw [ea, ix_nI (by omega)]
    split
    · rename_i g
      refine ⟨_, hL1.r6, _, hL1.r1, hL1.sn.1.1, ?_⟩
      have hS1 : Shw M1 (B + 85) w := hS.sm hsm (by simp <;> omega) hw.cnt
      have hH1 : Hts M1 (B + 85 + 8) (w 13) := fun k hk9 => by rw [hsm.2.2.2.2 _ (by simp <;> omega)]; exact hH k hk9
      refine s_X3_flow hL1.sn hS1 hw hH1 hT (fun M' g' => hC M' (hsm.tr (g'.wk (by simp)))) hl hY fun M2 g2 => ?_
      have hsm2 := hsm.tr (g2.wk (W' := [B + 94, B + 248, B]) (by simp))
      have hL2 := hL.sm hsm2
      have e248 : iv M2 (B + 248) = iv M1 (B + 248) := g2.2.2.2.2 _ (by simp)
      have eB : iv M2 B = iv M1 B := g2.2.2.2.2 _ (by simp <;> omega)
      refine ⟨inA_of hL2.kf (by omega) (by omega), fun M30 e30 => ?_⟩
      subst e30
      refine ⟨hL2.k, _, hL2.r6, inA_of hL2.kf (by omega) (by omega), ?_⟩
      rw [iv_sIe]
      refine hk _ (hsm2.tr (sm.i (by simp))) (fun j hj => by rw [iv_sIa (by omega), eB]; exact h14 j hj) (Or.inr ⟨l, hl, by rw [iv_sIa (by omega), eB]; exact e14, fun r' Y' hr' hY' => ?_⟩)
      by_cases hc : 99 * Y' + r' = 99 * Y + r
      · rw [hc, iv_sIe]
        right
        rw [show Y' = Y by omega, show r' = r by omega]
      · rw [iv_sIk hc, e248]
        exact hfl r' Y' hr' hY'
    · rename_i g
      refine ⟨_, hL1.r6, inA_of hL1.kf (by omega) (by omega), ?_⟩
      rw [(hfl r Y hr hY).resolve_left g]
      exact hk _ hsm h14 (Or.inr ⟨l, hl, e14, hfl⟩)
  refine ⟨hL.k, ?_⟩
  split
  · rename_i g
    refine main M sm.rf (fun _ _ => rfl) g ?_
    rcases hF with h | ⟨l', hl', e, h⟩
    · rw [h] at g
      exact absurd g (by intro e; have := congrArg Int32.toInt e; rw [nI_toInt (by omega)] at this; have e9 : (-1 : Int32).toInt = -1 := (by decide); rw [e9] at this; omega)
    · rw [e] at g
      rw [← (nI_eq (by omega) (by omega)).mp g]
      exact h
  · have key : ∀ d k M1, k + d = 29700 → sm [B + 94, B + 248, B] M M1 → (∀ j, iv M1 B j = iv M B j) → (∀ j, j < k → iv M1 (B + 248) j = -1) → P11 B (nI l) (nI r) (nI Y) (nI k) M1 := by
      intro d
      induction d with
      | zero =>
        intro k M1 hkd hsm hB hj
        have hL1 := hL.sm hsm
        apply h11
        refine ⟨hL1.k, _, hL1.r6, _, hL1.kf, ?_⟩
        rw [if_pos (nI_le (by omega) (by omega))]
        intro M9 e9
        subst e9
        refine main _ (hsm.tr (sm.i (by simp))) (fun j hj9 => by rw [iv_sIk hj9]; exact hB j) iv_sIe fun r' Y' hr' hY' => Or.inl ?_
        rw [iv_sIa (by omega)]
        exact hj _ (by omega)
      | succ d ih =>
        intro k M1 hkd hsm hB hj
        have hL1 := hL.sm hsm
        apply h11
        refine ⟨hL1.k, _, hL1.r6, _, hL1.kf, ?_⟩
        rw [if_neg (nI_ge (by omega) (by omega))]
        refine ⟨_, hL1.r6, inA_of hL1.kf (by omega) (by omega), fun M13 e13 => ?_⟩
        subst e13
        rw [nI_1, ix_nI (by omega)]
        refine ih (k + 1) _ (by omega) (hsm.tr (sm.i (by simp))) (fun j => by rw [iv_sIa (by omega)]; exact hB j) fun j hj9 => ?_
        by_cases hc : j = k
        · rw [hc, iv_sIe]
        · rw [iv_sIk hc]; exact hj j (by omega)
    exact key 29700 0 M (by omega) sm.rf (fun _ => rfl) (fun j hj => by omega)
