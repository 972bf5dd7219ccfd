/-! PLAIN LAW 1: how worlds are read; frames; the shape of a State -/
section READ
variable {M : gM} {a k n b j : Nat} {x : Int32} {o : Option Nat} {y : Int64} {c : Nat ⊕ (Nat × Nat)}
theorem kd_sI : kd (sI M a k x) = kd M := rfl
theorem kd_sR : kd (sR M a k o) = kd M := rfl
theorem kd_sJ : kd (sJ M a k y) = kd M := rfl
theorem kd_sZ : kd (sZ M n) = kd M := rfl
theorem kd_sCI {f : Nat → Int32} : kd (sCI M a f) = kd M := rfl
theorem kd_sCR {f : Nat → Option Nat} : kd (sCR M a f) = kd M := rfl
theorem rv_sI : rv (sI M a k x) = rv M := rfl
theorem rv_sJ : rv (sJ M a k y) = rv M := rfl
theorem rv_sZ : rv (sZ M n) = rv M := rfl
theorem rv_sCI {f : Nat → Int32} : rv (sCI M a f) = rv M := rfl
theorem iv_sR : iv (sR M a k o) = iv M := rfl
theorem iv_sJ : iv (sJ M a k y) = iv M := rfl
theorem iv_sZ : iv (sZ M n) = iv M := rfl
theorem iv_sCR {f : Nat → Option Nat} : iv (sCR M a f) = iv M := rfl
theorem jv_sI : jv (sI M a k x) = jv M := rfl
theorem jv_sR : jv (sR M a k o) = jv M := rfl
theorem jv_sZ : jv (sZ M n) = jv M := rfl
theorem jv_sCI {f : Nat → Int32} : jv (sCI M a f) = jv M := rfl
theorem jv_sCR {f : Nat → Option Nat} : jv (sCR M a f) = jv M := rfl
theorem sz_sI : sz (sI M a k x) = sz M := rfl
theorem sz_sR : sz (sR M a k o) = sz M := rfl
theorem sz_sJ : sz (sJ M a k y) = sz M := rfl
theorem sz_sZ : sz (sZ M n) = n := rfl
theorem sz_sN : sz (sN M c) = sz M + 1 := rfl
theorem sz_sCI {f : Nat → Int32} : sz (sCI M a f) = sz M := rfl
theorem sz_sCR {f : Nat → Option Nat} : sz (sCR M a f) = sz M := rfl
theorem iv_sI : iv (sI M a k x) b j = if b = a ∧ j = k then x else iv M b j := rfl
theorem iv_sIe : iv (sI M a k x) a k = x := if_pos ⟨rfl, rfl⟩
theorem iv_sIa (h : b ≠ a) : iv (sI M a k x) b = iv M b := funext fun _ => if_neg fun q => h q.1
theorem iv_sIk (h : j ≠ k) : iv (sI M a k x) b j = iv M b j := if_neg fun q => h q.2
theorem rv_sR : rv (sR M a k o) b j = if b = a ∧ j = k then o else rv M b j := rfl
theorem rv_sRe : rv (sR M a k o) a k = o := if_pos ⟨rfl, rfl⟩
theorem rv_sRa (h : b ≠ a) : rv (sR M a k o) b = rv M b := funext fun _ => if_neg fun q => h q.1
theorem rv_sRk (h : j ≠ k) : rv (sR M a k o) b j = rv M b j := if_neg fun q => h q.2
theorem iv_sCIe {f : Nat → Int32} : iv (sCI M a f) a = f := if_pos rfl
theorem iv_sCIa {f : Nat → Int32} (h : b ≠ a) : iv (sCI M a f) b = iv M b := if_neg h
theorem rv_sCRe {f : Nat → Option Nat} : rv (sCR M a f) a = f := if_pos rfl
theorem rv_sCRa {f : Nat → Option Nat} (h : b ≠ a) : rv (sCR M a f) b = rv M b := if_neg h
theorem jv_sJe : jv (sJ M a k y) a k = y := if_pos ⟨rfl, rfl⟩
theorem kd_sNe : kd (sN M c) (sz M) = some c := if_pos rfl
theorem kd_sNa (h : b ≠ sz M) : kd (sN M c) b = kd M b := if_neg h
theorem iv_sNe : iv (sN M c) (sz M) j = 0 := if_pos rfl
theorem iv_sNa (h : b ≠ sz M) : iv (sN M c) b = iv M b := funext fun _ => if_neg h
theorem rv_sNe : rv (sN M c) (sz M) j = none := if_pos rfl
theorem rv_sNa (h : b ≠ sz M) : rv (sN M c) b = rv M b := funext fun _ => if_neg h
theorem jv_sNa (h : b ≠ sz M) : jv (sN M c) b = jv M b := funext fun _ => if_neg h
end READ
/-- but for the ints at these addresses all is as it was -/
def sm (W : List Nat) (M M' : gM) : Prop := kd M' = kd M ∧ rv M' = rv M ∧ jv M' = jv M ∧ sz M' = sz M ∧ ∀ a, a ∉ W → iv M' a = iv M a
theorem sm.rf {W : List Nat} {M : gM} : sm W M M := ⟨rfl, rfl, rfl, rfl, fun _ _ => rfl⟩
theorem sm.wk {W W' : List Nat} {M M' : gM} (h : sm W M M') (hs : ∀ a, a ∈ W → a ∈ W') : sm W' M M' := ⟨h.1, h.2.1, h.2.2.1, h.2.2.2.1, fun a ha => h.2.2.2.2 a fun q => ha (hs a q)⟩
theorem sm.tr {W : List Nat} {M M' M'' : gM} (h : sm W M M') (g : sm W M' M'') : sm W M M'' := ⟨g.1.trans h.1, g.2.1.trans h.2.1, g.2.2.1.trans h.2.2.1, g.2.2.2.1.trans h.2.2.2.1, fun a ha => (g.2.2.2.2 a ha).trans (h.2.2.2.2 a ha)⟩
theorem sm.i {W : List Nat} {M : gM} {a k : Nat} {x : Int32} (h : a ∈ W) : sm W M (sI M a k x) := ⟨rfl, rfl, rfl, rfl, fun _ hb => iv_sIa fun e => hb (e ▸ h)⟩
theorem sm.c {W : List Nat} {M : gM} {a : Nat} {f : Nat → Int32} (h : a ∈ W) : sm W M (sCI M a f) := ⟨rfl, rfl, rfl, rfl, fun _ hb => iv_sCIa fun e => hb (e ▸ h)⟩
theorem inA_of {M : gM} {a t n k : Nat} (h : kd M a = some (.inr (t, n))) (hk : k < n) (hn : n < 2 ^ 31) : inA M a t (nI k) := ⟨n, h, nI_in hk hn⟩
theorem inA_sm {W : List Nat} {M M' : gM} (h : sm W M M') {a t : Nat} {i : Int32} : inA M' a t i = inA M a t i := by unfold inA; rw [h.1]
theorem ix_nI {k : Nat} (h : k < 2 ^ 31) : ix (nI k) = k := nI_clamp h
/-- an Int32 between bounds is a small Nat -/
theorem nat_of {v : Int32} {n : Nat} (hn : n < 2 ^ 31) (h0 : 0 ≤ v) (h1 : v < nI n) : ∃ k, k < n ∧ v = nI k := by
  have a1 := Int32.le_iff_toInt_le.mp h0
  have a2 := Int32.lt_iff_toInt_lt.mp h1
  rw [nI_toInt hn] at a2
  have a3 : (0 : Int32).toInt = 0 := by decide
  rw [a3] at a1
  refine ⟨v.toInt.toNat, by omega, ?_⟩
  apply Int32.toInt_inj.mp
  rw [nI_toInt (by omega)]
  omega
/-- the shape of a State at s: 78 cells one behind the other -/
def LSt (M : gM) (s : Nat) : Prop :=
  (kd M s = some (.inl 3) ∧ (rv M s 0 = some (s + 1) ∧ rv M s 1 = some (s + 2) ∧ rv M s 2 = some (s + 3) ∧ rv M s 3 = some (s + 4) ∧ rv M s 4 = some (s + 5) ∧ rv M s 5 = some (s + 6) ∧ rv M s 6 = some (s + 7) ∧ rv M s 7 = some (s + 8) ∧ rv M s 8 = some (s + 9)) ∧
    (kd M (s + 1) = some (.inr (5, 8)) ∧ kd M (s + 2) = some (.inr (6, 8)) ∧ kd M (s + 3) = some (.inr (7, 8)) ∧ kd M (s + 4) = some (.inr (8, 24)) ∧ kd M (s + 5) = some (.inr (5, 6)) ∧ kd M (s + 6) = some (.inr (4, 12)) ∧ kd M (s + 7) = some (.inr (0, 72)) ∧ kd M (s + 8) = some (.inr (0, 300)) ∧ kd M (s + 9) = some (.inr (0, 10)))) ∧
  (∀ k, k < 8 → rv M (s + 1) k = some (s + 10 + 2 * k) ∧ kd M (s + 10 + 2 * k) = some (.inl 4) ∧ rv M (s + 10 + 2 * k) 0 = some (s + 11 + 2 * k) ∧ kd M (s + 11 + 2 * k) = some (.inr (0, 6))) ∧
  (∀ k, k < 8 → rv M (s + 2) k = some (s + 26 + k) ∧ kd M (s + 26 + k) = some (.inl 5)) ∧
  (∀ k, k < 8 → rv M (s + 3) k = some (s + 34 + k) ∧ kd M (s + 34 + k) = some (.inl 6)) ∧
  (∀ k, k < 24 → rv M (s + 4) k = some (s + 42 + k) ∧ kd M (s + 42 + k) = some (.inl 7)) ∧
  (∀ k, k < 6 → rv M (s + 5) k = some (s + 66 + 2 * k) ∧ kd M (s + 66 + 2 * k) = some (.inl 4) ∧ rv M (s + 66 + 2 * k) 0 = some (s + 67 + 2 * k) ∧ kd M (s + 67 + 2 * k) = some (.inr (0, 6)))
theorem LSt.sm {W : List Nat} {M M' : gM} {s : Nat} (h : LSt M s) (g : sm W M M') : LSt M' s := by
  unfold LSt
  rw [g.1, g.2.1]
  exact h
/-- the State at s shows the row w (laid as the model lays its world), but for the law -/
def Shw (M : gM) (s : Nat) (w : Nat → Int32) : Prop :=
  (iv M s 9 = w 0 ∧ iv M s 10 = w 1 ∧ iv M s 11 = w 2 ∧ iv M s 13 = w 3 ∧ iv M s 14 = w 4 ∧ iv M s 12 = w 5 ∧ iv M s 15 = w 6 ∧ iv M s 17 = w 7 ∧ iv M s 22 = w 9 ∧ iv M s 18 = w 10 ∧ iv M s 19 = w 11 ∧ iv M s 20 = w 12 ∧ iv M s 21 = w 13 ∧ iv M s 23 = w 14) ∧
  (∀ k, k < ix (w 2) → iv M (s + 10 + 2 * k) 1 = w (15 + 7 * k) ∧ ∀ l, l < ix (w 0) → iv M (s + 11 + 2 * k) l = w (16 + 7 * k + l)) ∧
  (∀ k, k < ix (w 5) → iv M (s + 26 + k) 0 = w (71 + 3 * k) ∧ iv M (s + 26 + k) 1 = w (72 + 3 * k) ∧ iv M (s + 26 + k) 2 = w (73 + 3 * k)) ∧
  (∀ k, k < ix (w 3) → iv M (s + 34 + k) 0 = w (95 + 3 * k) ∧ iv M (s + 34 + k) 1 = w (96 + 3 * k) ∧ iv M (s + 34 + k) 2 = w (97 + 3 * k)) ∧
  (∀ k, k < ix (w 4) → iv M (s + 42 + k) 0 = w (119 + 7 * k) ∧ iv M (s + 42 + k) 1 = w (120 + 7 * k) ∧ iv M (s + 42 + k) 2 = w (121 + 7 * k) ∧ iv M (s + 42 + k) 4 = w (122 + 7 * k) ∧ iv M (s + 42 + k) 3 = w (123 + 7 * k) ∧ iv M (s + 42 + k) 5 = w (124 + 7 * k) ∧ iv M (s + 42 + k) 6 = w (125 + 7 * k)) ∧
  (∀ k, k < ix (w 6) → ∀ l, l < ix (w 0) → iv M (s + 67 + 2 * k) l = w (287 + 6 * k + l)) ∧
  (∀ k, k < 3 * ix (w 14) → iv M (s + 7) k = w (323 + k))
theorem Shw.sm {W : List Nat} {M M' : gM} {s : Nat} {w : Nat → Int32} (h : Shw M s w) (g : sm W M M') (hW : ∀ a, a ∈ W → a < s ∨ a = s + 8 ∨ a = s + 9 ∨ s + 78 ≤ a) (c : ix (w 2) ≤ 8 ∧ ix (w 3) ≤ 8 ∧ ix (w 4) ≤ 24 ∧ ix (w 5) ≤ 8 ∧ ix (w 6) ≤ 6) : Shw M' s w := by
  have q : ∀ j, j < 78 → j ≠ 8 → j ≠ 9 → iv M' (s + j) = iv M (s + j) := fun j h1 h2 h3 => g.2.2.2.2 _ fun hm => by have := hW _ hm; omega
  obtain ⟨h1, h2, h3, h4, h5, h6, h7⟩ := h
  obtain ⟨c1, c2, c3, c4, c5⟩ := c
  have q0 : iv M' s = iv M s := q 0 (by omega) (by omega) (by omega)
  refine ⟨by rw [q0]; exact h1, fun k hk => ?_, fun k hk => ?_, fun k hk => ?_, fun k hk => ?_, fun k hk => ?_, ?_⟩
  · rw [show s + 10 + 2 * k = s + (10 + 2 * k) by omega, show s + 11 + 2 * k = s + (11 + 2 * k) by omega, q _ (by omega) (by omega) (by omega), q _ (by omega) (by omega) (by omega)]
    have := h2 k hk
    rwa [show s + 10 + 2 * k = s + (10 + 2 * k) by omega, show s + 11 + 2 * k = s + (11 + 2 * k) by omega] at this
  · rw [show s + 26 + k = s + (26 + k) by omega, q _ (by omega) (by omega) (by omega)]
    have := h3 k hk
    rwa [show s + 26 + k = s + (26 + k) by omega] at this
  · rw [show s + 34 + k = s + (34 + k) by omega, q _ (by omega) (by omega) (by omega)]
    have := h4 k hk
    rwa [show s + 34 + k = s + (34 + k) by omega] at this
  · rw [show s + 42 + k = s + (42 + k) by omega, q _ (by omega) (by omega) (by omega)]
    have := h5 k hk
    rwa [show s + 42 + k = s + (42 + k) by omega] at this
  · rw [show s + 67 + 2 * k = s + (67 + 2 * k) by omega, q _ (by omega) (by omega) (by omega)]
    have := h6 k hk
    rwa [show s + 67 + 2 * k = s + (67 + 2 * k) by omega] at this
  · rw [q 7 (by omega) (by omega) (by omega)]
    exact h7
