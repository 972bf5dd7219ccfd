theorem gE1 : ∀ q ∈ gNF, Cond.fieldLinkNest q.1 q.2.1 q.2.2.1 q.2.2.2.1 q.2.2.2.2.1 q.2.2.2.2.2 ∈ lw_tbl := by decide +kernel
theorem gE2 : ∀ q ∈ gNM, Cond.methodLinkNest q.1 q.2.1 q.2.2.1 q.2.2.2 ∈ lw_tbl := by decide +kernel
theorem gE3 : ∀ q ∈ gCa, Cond.castable q.1 q.2 ∈ lw_tbl := by decide +kernel
theorem gE4 : ∀ q ∈ gNc, Cond.not (.castable q.1 q.2) ∈ gN1 := by decide +kernel
theorem gE5 : ∀ q ∈ gIf, Cond.declares q.2.1 ∈ lw_tbl ∧ Cond.interfaceMethod q.2.1.cls q.2.1.cls q.2.1.name q.2.1.desc ∈ lw_tbl ∧ Cond.publicMethod q.2.2 ∈ lw_tbl ∧ Cond.unhidden q.1 q.2.1.name q.2.1.desc ∈ lw_tbl ∧ Cond.castable q.1 q.2.1.cls ∈ lw_tbl := by decide +kernel
theorem gE6 : ∀ y ∈ gDe, Cond.declares y ∈ lw_tbl := by decide +kernel
theorem gE7 : Cond.isRef (.static Bundle.tN "UNASSIGNED_STACK" Bundle.steD) ∈ gN1 ∧ Cond.isRef (.static Bundle.tN "SUPPRESSED_SENTINEL" Bundle.listD) ∈ gN1 ∧ Cond.eq (.static "java/lang/String" "COMPACT_STRINGS" "Z") (.int 1) ∈ gN1 ∧ Cond.isRef (.static "jdk/internal/util/Preconditions" "SIOOBE_FORMATTER" "Ljava/util/function/BiFunction;") ∈ gN1 := by decide +kernel
theorem gE8 : Cond.laysStatic Bundle.tN "UNASSIGNED_STACK" Bundle.steD ∈ lw_tbl ∧ Cond.laysStatic Bundle.tN "SUPPRESSED_SENTINEL" Bundle.listD ∈ lw_tbl ∧ Cond.laysStatic "java/lang/String" "COMPACT_STRINGS" "Z" ∈ lw_tbl ∧ Cond.laysStatic "jdk/internal/util/Preconditions" "SIOOBE_FORMATTER" "Ljava/util/function/BiFunction;" ∈ lw_tbl ∧ Cond.initialized Bundle.tN ∈ lw_tbl ∧ Cond.initialized "java/lang/String" ∈ lw_tbl ∧ Cond.initialized "jdk/internal/util/Preconditions" ∈ lw_tbl := by decide +kernel
/-- the constants, at the law's start -/
theorem gKK {args : Array Value} {s : State} (htb : ∀ w ∈ lw_tbl, w.before args s = true) (hs : ∀ w ∈ gN1, w.before args s = true) : ∃ G : gG, KK G s ∧ gN0 G = s.heap.size ∧ (∀ i, i < gSN → gSt G i < gN0 G) ∧ ∀ i j, i < gSN → j < gSN → gSt G i = gSt G j → i = j := by
  have hta : ∀ w ∈ lw_all, w.before args s = true := fun w h => htb w (lw_all_tbl h)
  have hA : ∀ a : Nat, a < s.heap.size → ¬ (fun q => s.heap.size ≤ q) a := fun a h q => absurd h (Nat.not_lt.mpr q)
  obtain ⟨D, hD⟩ := gClasses hta
  obtain ⟨cA, hcA, hao⟩ := gArrs htb
  obtain ⟨adK, adV, hS, hR⟩ := gTexts (A := fun q => s.heap.size ≤ q) htb hs hA
  obtain ⟨z1, z2, z3, z4⟩ := gE7
  obtain ⟨y1, y2, y3, y4, y5, y6, y7⟩ := gE8
  refine ⟨(D, cA, s.heap.size, adK, adV), ⟨hD, hcA, fun q hq => va_Nw.of rfl (htb _ (gE1 q hq)), fun q hq => va_Nw.of rfl (htb _ (gE2 q hq)), hao, fun q hq => va_Nw.of rfl (htb _ (gE3 q hq)), fun q hq => va_Nc.of (hs _ (gE4 q hq)), fun q hq => ?_, hR, hS, vx_Zqof (htb _ y1) (htb _ y5) (hs _ z1) hA, vx_Zqof (htb _ y2) (htb _ y5) (hs _ z2) hA, va_Zof (htb _ y3) (htb _ y6) (va_eqt (hs _ z3)) hA, Nat.le_refl _, fun y hy => va_Nw.of rfl (htb _ (gE6 y hy)), va_Zqof (htb _ y4) (htb _ y7) (hs _ z4) hA⟩, rfl, fun i hi => ?_, hS.2⟩
  · obtain ⟨a1, a2, a3, a4, a5⟩ := gE5 q hq
    exact va_Fw.of (htb _ a1) (htb _ a2) (htb _ a3) (htb _ a4) (htb _ a5)
  · obtain ⟨cell, h1, -, -, -⟩ := (hS.1 i hi).1
    exact (Array.getElem?_eq_some_iff.mp h1).1
/-- the world at the start: the texts alone -/
noncomputable def gM0 (ad : Nat → Nat) (n : Nat) : gM := (fun a => @dite gKd (∃ i, i < gSN ∧ ad i = a) (Classical.propDecidable _) (fun h => some (.inr (10, Classical.choose h))) (fun _ => none), fun _ _ => 0, fun _ _ => none, fun _ _ => 0, n)
theorem gM0_kd {ad : Nat → Nat} {n a : Nat} {x : Nat ⊕ (Nat × Nat)} (h : kd (gM0 ad n) a = some x) : ∃ i, i < gSN ∧ ad i = a ∧ x = .inr (10, i) := by
  unfold gM0 kd at h
  dsimp only at h
  split at h
  · rename_i hx
    injection h with h
    exact ⟨_, (Classical.choose_spec hx).1, (Classical.choose_spec hx).2, h.symm⟩
  · cases h
theorem gM0_at {ad : Nat → Nat} (inj : ∀ i j, i < gSN → j < gSN → ad i = ad j → i = j) {n i : Nat} (hi : i < gSN) : kd (gM0 ad n) (ad i) = some (.inr (10, i)) := by
  unfold gM0 kd
  dsimp only
  have hx : ∃ j, j < gSN ∧ ad j = ad i := ⟨i, hi, rfl⟩
  rw [dif_pos hx, inj _ _ (Classical.choose_spec hx).1 hi (Classical.choose_spec hx).2]
theorem gRp0 {G : gG} {H : Heap} (h0 : gN0 G = H.size) (h1 : ∀ i, i < gSN → gSt G i < gN0 G) (h2 : ∀ i j, i < gSN → j < gSN → gSt G i = gSt G j → i = j) : Rp G (gM0 (gSt G) H.size) H := by
  refine ⟨rfl, Nat.le_of_eq h0, fun a => ?_, fun i hi => ⟨h1 i hi, gM0_at h2 hi⟩⟩
  unfold gAt
  cases hk : kd (gM0 (gSt G) H.size) a with
  | none => trivial
  | some x =>
    obtain ⟨i, hi, he, hx⟩ := gM0_kd hk
    subst hx
    dsimp only
    rw [if_pos rfl]
    exact ⟨he.symm, hi⟩
/-- a world of the start: texts alone, below the size -/
def gFresh (M : gM) : Prop := ∀ a x, kd M a = some x → a < sz M ∧ ∃ i, i < gSN ∧ x = .inr (10, i)
theorem whole_start0 (hlaw : ∀ (L0 : Nat) (xs : Nat → Int32) (M : gM), L0 ≤ 384 → gFresh M → f_X0_law_ L0 xs 603072 7190634 M) {p : Program} {e : Env} {s : State} {m : MethodId} {below : List Frame} {meth : Method} {c : Code} (l : Launch) (hflags : l.flags = flags0) {b L : Nat} {xs : Nat → Int32} (hL : L ≤ 384) (C0 : lw_At p s m meth c b L xs) : W p l e room_1 s m #[Value.ref b] below meth c s.heap [] 0 0 (lw_Z below #[Value.ref b] s) (entryFrame m ([Value.ref b] : List Value).toArray 7) := by
  obtain ⟨hx, hb, hr, hml, hown, hts, hscr, hbl, hlocks, hgv⟩ := id C0
  obtain ⟨G, hK, h0, h1, h2⟩ := gKK hts (flat_of_before _ hgv)
  have hR := gRp0 h0 h1 h2
  have hl : l.stackTraces = false := by
    rw [Launch.stackTraces, hflags]
    decide
  have hf := hlaw L xs (gM0 (gSt G) s.heap.size) hL (fun a x hk => by
    obtain ⟨i, hi, he, hx⟩ := gM0_kd hk
    refine ⟨?_, i, hi, hx⟩
    show a < s.heap.size
    rw [← he, ← h0]
    exact h1 i hi)
  have h : hX l G (p, e, room_1, s, m, #[Value.ref b], below, meth, c, lw_Z below #[Value.ref b] s, 7) code 7 "GlacierMailLaw" 8192 104096 := ⟨hx, hb, hml, rfl, hown, fun w hw => hts w (lw_all_tbl hw), hK, hlocks, Nat.le_of_ble_eq_true rfl, Nat.le_of_ble_eq_true rfl, hl⟩
  have hV := m_X0_law_ hl h (by decide) (by decide) (b := b) (L0 := L) (xs := xs) ⟨hscr, hbl, h0.symm⟩ ⟨rfl, rfl, rfl, hr⟩ hf
  have hl0 := lv_entry ([.ref b]) (n := 7) (Nat.le_of_ble_eq_true rfl)
  rw [lg_entry_eq]
  exact W.widen (Nat.zero_le _) (Nat.zero_le _) (hV (Nat.le_of_ble_eq_true rfl) (Nat.le_of_ble_eq_true rfl) s.heap [] _ hR va_S.rf hl0)
