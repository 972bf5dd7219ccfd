/-! CORE 9: wide loads of texts, switches, calls of String (printed by gen/mkcore9.py) -/
section ROWS9
variable {l : Launch} {G : gG} {X : gX} {cc : ByteArray} {nL : Nat} {own : String} {F L bc bs : Nat} {M : gM} {pc : Nat} {lv lv' : List (Nat × Value)} {rest : List Value} {a : Nat}
theorem r_ldcwS (h : hX l G X cc nL own F L) {i index : Nat} {tx : String} (hi : i < gSN) (hm : (own, index, tx, i) ∈ gSr) (d : decode cc pc = .ok (.ldc_w index, 3)) (kk : ∀ w, kd M w = some (.inr (10, i)) → V l G X bc bs M (pc + 3) lv (.ref w :: rest)) : V l G X bc bs M pc lv rest := by
  obtain ⟨p, e, R, s, m, args, below, meth, c, Q, nl⟩ := X
  obtain ⟨hx, hb, hml, hnl, hown, hts, hK, hlk, hF, hL, htr⟩ := h
  intro g1 g2 H locs la hR hS hl
  have hZ := hK.2.2.2.2.2.2.2.2.1 _ hm
  intro T hT X9
  obtain ⟨t, a1, b1⟩ := kk _ (hR.2.2.2 i hi).2 g1 g2 H locs la hR hS hl T hT X9
  exact ⟨t, X9.ldcStringW hx hown (text := tx) (a := gSt G i) hZ.1 hZ.2 (g := F0 m pc la rest) rfl (by rw [hb]; exact d) t a1, b1⟩
end ROWS9
theorem gSw0_6 {x : Int32} (c0 : ¬ x = 0) (c1 : ¬ x = 1) (c2 : ¬ x = 2) (c3 : ¬ x = 3) (c4 : ¬ x = 4) (c5 : ¬ x = 5) : x.toInt < 0 ∨ 5 < x.toInt := by
  have e0 : x.toInt ≠ 0 := fun e => c0 (Int32.toInt_inj.mp (e.trans (by decide)))
  have e1 : x.toInt ≠ 1 := fun e => c1 (Int32.toInt_inj.mp (e.trans (by decide)))
  have e2 : x.toInt ≠ 2 := fun e => c2 (Int32.toInt_inj.mp (e.trans (by decide)))
  have e3 : x.toInt ≠ 3 := fun e => c3 (Int32.toInt_inj.mp (e.trans (by decide)))
  have e4 : x.toInt ≠ 4 := fun e => c4 (Int32.toInt_inj.mp (e.trans (by decide)))
  have e5 : x.toInt ≠ 5 := fun e => c5 (Int32.toInt_inj.mp (e.trans (by decide)))
  omega
theorem gSw0_10 {x : Int32} (c0 : ¬ x = 0) (c1 : ¬ x = 1) (c2 : ¬ x = 2) (c3 : ¬ x = 3) (c4 : ¬ x = 4) (c5 : ¬ x = 5) (c6 : ¬ x = 6) (c7 : ¬ x = 7) (c8 : ¬ x = 8) (c9 : ¬ x = 9) : x.toInt < 0 ∨ 9 < x.toInt := by
  have e0 : x.toInt ≠ 0 := fun e => c0 (Int32.toInt_inj.mp (e.trans (by decide)))
  have e1 : x.toInt ≠ 1 := fun e => c1 (Int32.toInt_inj.mp (e.trans (by decide)))
  have e2 : x.toInt ≠ 2 := fun e => c2 (Int32.toInt_inj.mp (e.trans (by decide)))
  have e3 : x.toInt ≠ 3 := fun e => c3 (Int32.toInt_inj.mp (e.trans (by decide)))
  have e4 : x.toInt ≠ 4 := fun e => c4 (Int32.toInt_inj.mp (e.trans (by decide)))
  have e5 : x.toInt ≠ 5 := fun e => c5 (Int32.toInt_inj.mp (e.trans (by decide)))
  have e6 : x.toInt ≠ 6 := fun e => c6 (Int32.toInt_inj.mp (e.trans (by decide)))
  have e7 : x.toInt ≠ 7 := fun e => c7 (Int32.toInt_inj.mp (e.trans (by decide)))
  have e8 : x.toInt ≠ 8 := fun e => c8 (Int32.toInt_inj.mp (e.trans (by decide)))
  have e9 : x.toInt ≠ 9 := fun e => c9 (Int32.toInt_inj.mp (e.trans (by decide)))
  omega
theorem gSw0_18 {x : Int32} (c0 : ¬ x = 0) (c1 : ¬ x = 1) (c2 : ¬ x = 2) (c3 : ¬ x = 3) (c4 : ¬ x = 4) (c5 : ¬ x = 5) (c6 : ¬ x = 6) (c7 : ¬ x = 7) (c8 : ¬ x = 8) (c9 : ¬ x = 9) (c10 : ¬ x = 10) (c11 : ¬ x = 11) (c12 : ¬ x = 12) (c13 : ¬ x = 13) (c14 : ¬ x = 14) (c15 : ¬ x = 15) (c16 : ¬ x = 16) (c17 : ¬ x = 17) : x.toInt < 0 ∨ 17 < x.toInt := by
  have e0 : x.toInt ≠ 0 := fun e => c0 (Int32.toInt_inj.mp (e.trans (by decide)))
  have e1 : x.toInt ≠ 1 := fun e => c1 (Int32.toInt_inj.mp (e.trans (by decide)))
  have e2 : x.toInt ≠ 2 := fun e => c2 (Int32.toInt_inj.mp (e.trans (by decide)))
  have e3 : x.toInt ≠ 3 := fun e => c3 (Int32.toInt_inj.mp (e.trans (by decide)))
  have e4 : x.toInt ≠ 4 := fun e => c4 (Int32.toInt_inj.mp (e.trans (by decide)))
  have e5 : x.toInt ≠ 5 := fun e => c5 (Int32.toInt_inj.mp (e.trans (by decide)))
  have e6 : x.toInt ≠ 6 := fun e => c6 (Int32.toInt_inj.mp (e.trans (by decide)))
  have e7 : x.toInt ≠ 7 := fun e => c7 (Int32.toInt_inj.mp (e.trans (by decide)))
  have e8 : x.toInt ≠ 8 := fun e => c8 (Int32.toInt_inj.mp (e.trans (by decide)))
  have e9 : x.toInt ≠ 9 := fun e => c9 (Int32.toInt_inj.mp (e.trans (by decide)))
  have e10 : x.toInt ≠ 10 := fun e => c10 (Int32.toInt_inj.mp (e.trans (by decide)))
  have e11 : x.toInt ≠ 11 := fun e => c11 (Int32.toInt_inj.mp (e.trans (by decide)))
  have e12 : x.toInt ≠ 12 := fun e => c12 (Int32.toInt_inj.mp (e.trans (by decide)))
  have e13 : x.toInt ≠ 13 := fun e => c13 (Int32.toInt_inj.mp (e.trans (by decide)))
  have e14 : x.toInt ≠ 14 := fun e => c14 (Int32.toInt_inj.mp (e.trans (by decide)))
  have e15 : x.toInt ≠ 15 := fun e => c15 (Int32.toInt_inj.mp (e.trans (by decide)))
  have e16 : x.toInt ≠ 16 := fun e => c16 (Int32.toInt_inj.mp (e.trans (by decide)))
  have e17 : x.toInt ≠ 17 := fun e => c17 (Int32.toInt_inj.mp (e.trans (by decide)))
  omega
theorem gSw0_47 {x : Int32} (c0 : ¬ x = 0) (c1 : ¬ x = 1) (c2 : ¬ x = 2) (c3 : ¬ x = 3) (c4 : ¬ x = 4) (c5 : ¬ x = 5) (c6 : ¬ x = 6) (c7 : ¬ x = 7) (c8 : ¬ x = 8) (c9 : ¬ x = 9) (c10 : ¬ x = 10) (c11 : ¬ x = 11) (c12 : ¬ x = 12) (c13 : ¬ x = 13) (c14 : ¬ x = 14) (c15 : ¬ x = 15) (c16 : ¬ x = 16) (c17 : ¬ x = 17) (c18 : ¬ x = 18) (c19 : ¬ x = 19) (c20 : ¬ x = 20) (c21 : ¬ x = 21) (c22 : ¬ x = 22) (c23 : ¬ x = 23) (c24 : ¬ x = 24) (c25 : ¬ x = 25) (c26 : ¬ x = 26) (c27 : ¬ x = 27) (c28 : ¬ x = 28) (c29 : ¬ x = 29) (c30 : ¬ x = 30) (c31 : ¬ x = 31) (c32 : ¬ x = 32) (c33 : ¬ x = 33) (c34 : ¬ x = 34) (c35 : ¬ x = 35) (c36 : ¬ x = 36) (c37 : ¬ x = 37) (c38 : ¬ x = 38) (c39 : ¬ x = 39) (c40 : ¬ x = 40) (c41 : ¬ x = 41) (c42 : ¬ x = 42) (c43 : ¬ x = 43) (c44 : ¬ x = 44) (c45 : ¬ x = 45) (c46 : ¬ x = 46) : x.toInt < 0 ∨ 46 < x.toInt := by
  have e0 : x.toInt ≠ 0 := fun e => c0 (Int32.toInt_inj.mp (e.trans (by decide)))
  have e1 : x.toInt ≠ 1 := fun e => c1 (Int32.toInt_inj.mp (e.trans (by decide)))
  have e2 : x.toInt ≠ 2 := fun e => c2 (Int32.toInt_inj.mp (e.trans (by decide)))
  have e3 : x.toInt ≠ 3 := fun e => c3 (Int32.toInt_inj.mp (e.trans (by decide)))
  have e4 : x.toInt ≠ 4 := fun e => c4 (Int32.toInt_inj.mp (e.trans (by decide)))
  have e5 : x.toInt ≠ 5 := fun e => c5 (Int32.toInt_inj.mp (e.trans (by decide)))
  have e6 : x.toInt ≠ 6 := fun e => c6 (Int32.toInt_inj.mp (e.trans (by decide)))
  have e7 : x.toInt ≠ 7 := fun e => c7 (Int32.toInt_inj.mp (e.trans (by decide)))
  have e8 : x.toInt ≠ 8 := fun e => c8 (Int32.toInt_inj.mp (e.trans (by decide)))
  have e9 : x.toInt ≠ 9 := fun e => c9 (Int32.toInt_inj.mp (e.trans (by decide)))
  have e10 : x.toInt ≠ 10 := fun e => c10 (Int32.toInt_inj.mp (e.trans (by decide)))
  have e11 : x.toInt ≠ 11 := fun e => c11 (Int32.toInt_inj.mp (e.trans (by decide)))
  have e12 : x.toInt ≠ 12 := fun e => c12 (Int32.toInt_inj.mp (e.trans (by decide)))
  have e13 : x.toInt ≠ 13 := fun e => c13 (Int32.toInt_inj.mp (e.trans (by decide)))
  have e14 : x.toInt ≠ 14 := fun e => c14 (Int32.toInt_inj.mp (e.trans (by decide)))
  have e15 : x.toInt ≠ 15 := fun e => c15 (Int32.toInt_inj.mp (e.trans (by decide)))
  have e16 : x.toInt ≠ 16 := fun e => c16 (Int32.toInt_inj.mp (e.trans (by decide)))
  have e17 : x.toInt ≠ 17 := fun e => c17 (Int32.toInt_inj.mp (e.trans (by decide)))
  have e18 : x.toInt ≠ 18 := fun e => c18 (Int32.toInt_inj.mp (e.trans (by decide)))
  have e19 : x.toInt ≠ 19 := fun e => c19 (Int32.toInt_inj.mp (e.trans (by decide)))
  have e20 : x.toInt ≠ 20 := fun e => c20 (Int32.toInt_inj.mp (e.trans (by decide)))
  have e21 : x.toInt ≠ 21 := fun e => c21 (Int32.toInt_inj.mp (e.trans (by decide)))
  have e22 : x.toInt ≠ 22 := fun e => c22 (Int32.toInt_inj.mp (e.trans (by decide)))
  have e23 : x.toInt ≠ 23 := fun e => c23 (Int32.toInt_inj.mp (e.trans (by decide)))
  have e24 : x.toInt ≠ 24 := fun e => c24 (Int32.toInt_inj.mp (e.trans (by decide)))
  have e25 : x.toInt ≠ 25 := fun e => c25 (Int32.toInt_inj.mp (e.trans (by decide)))
  have e26 : x.toInt ≠ 26 := fun e => c26 (Int32.toInt_inj.mp (e.trans (by decide)))
  have e27 : x.toInt ≠ 27 := fun e => c27 (Int32.toInt_inj.mp (e.trans (by decide)))
  have e28 : x.toInt ≠ 28 := fun e => c28 (Int32.toInt_inj.mp (e.trans (by decide)))
  have e29 : x.toInt ≠ 29 := fun e => c29 (Int32.toInt_inj.mp (e.trans (by decide)))
  have e30 : x.toInt ≠ 30 := fun e => c30 (Int32.toInt_inj.mp (e.trans (by decide)))
  have e31 : x.toInt ≠ 31 := fun e => c31 (Int32.toInt_inj.mp (e.trans (by decide)))
  have e32 : x.toInt ≠ 32 := fun e => c32 (Int32.toInt_inj.mp (e.trans (by decide)))
  have e33 : x.toInt ≠ 33 := fun e => c33 (Int32.toInt_inj.mp (e.trans (by decide)))
  have e34 : x.toInt ≠ 34 := fun e => c34 (Int32.toInt_inj.mp (e.trans (by decide)))
  have e35 : x.toInt ≠ 35 := fun e => c35 (Int32.toInt_inj.mp (e.trans (by decide)))
  have e36 : x.toInt ≠ 36 := fun e => c36 (Int32.toInt_inj.mp (e.trans (by decide)))
  have e37 : x.toInt ≠ 37 := fun e => c37 (Int32.toInt_inj.mp (e.trans (by decide)))
  have e38 : x.toInt ≠ 38 := fun e => c38 (Int32.toInt_inj.mp (e.trans (by decide)))
  have e39 : x.toInt ≠ 39 := fun e => c39 (Int32.toInt_inj.mp (e.trans (by decide)))
  have e40 : x.toInt ≠ 40 := fun e => c40 (Int32.toInt_inj.mp (e.trans (by decide)))
  have e41 : x.toInt ≠ 41 := fun e => c41 (Int32.toInt_inj.mp (e.trans (by decide)))
  have e42 : x.toInt ≠ 42 := fun e => c42 (Int32.toInt_inj.mp (e.trans (by decide)))
  have e43 : x.toInt ≠ 43 := fun e => c43 (Int32.toInt_inj.mp (e.trans (by decide)))
  have e44 : x.toInt ≠ 44 := fun e => c44 (Int32.toInt_inj.mp (e.trans (by decide)))
  have e45 : x.toInt ≠ 45 := fun e => c45 (Int32.toInt_inj.mp (e.trans (by decide)))
  have e46 : x.toInt ≠ 46 := fun e => c46 (Int32.toInt_inj.mp (e.trans (by decide)))
  omega
theorem gSw8_10 {x : Int32} (c0 : ¬ x = 8) (c1 : ¬ x = 9) (c2 : ¬ x = 10) (c3 : ¬ x = 11) (c4 : ¬ x = 12) (c5 : ¬ x = 13) (c6 : ¬ x = 14) (c7 : ¬ x = 15) (c8 : ¬ x = 16) (c9 : ¬ x = 17) : x.toInt < 8 ∨ 17 < x.toInt := by
  have e0 : x.toInt ≠ 8 := fun e => c0 (Int32.toInt_inj.mp (e.trans (by decide)))
  have e1 : x.toInt ≠ 9 := fun e => c1 (Int32.toInt_inj.mp (e.trans (by decide)))
  have e2 : x.toInt ≠ 10 := fun e => c2 (Int32.toInt_inj.mp (e.trans (by decide)))
  have e3 : x.toInt ≠ 11 := fun e => c3 (Int32.toInt_inj.mp (e.trans (by decide)))
  have e4 : x.toInt ≠ 12 := fun e => c4 (Int32.toInt_inj.mp (e.trans (by decide)))
  have e5 : x.toInt ≠ 13 := fun e => c5 (Int32.toInt_inj.mp (e.trans (by decide)))
  have e6 : x.toInt ≠ 14 := fun e => c6 (Int32.toInt_inj.mp (e.trans (by decide)))
  have e7 : x.toInt ≠ 15 := fun e => c7 (Int32.toInt_inj.mp (e.trans (by decide)))
  have e8 : x.toInt ≠ 16 := fun e => c8 (Int32.toInt_inj.mp (e.trans (by decide)))
  have e9 : x.toInt ≠ 17 := fun e => c9 (Int32.toInt_inj.mp (e.trans (by decide)))
  omega
theorem c863 {l : Launch} {G : gG} {X : gX} {cc : ByteArray} {nL F L bc bs pc : Nat} {M : gM} {lv : List (Nat × Value)} {rest : List Value} {a0 : Nat} {K : Int32 → gM → Prop} (hl : l.stackTraces = false) (h : hX l G X cc nL "GlacierMail$Reader" F L) (d : decode cc pc = .ok (.invokevirtual 77, 3)) (hf : f_len a0 M K) (hst : (rest.map fun v => v.category).sum ≤ 8) (hF : 2 ≤ F) (hL : 40 ≤ L) (kk : ∀ x M1, K x M1 → V l G X bc bs M1 (pc + 3) lv (.int x :: rest)) : V l G X bc bs M pc lv (.ref a0 :: rest) := by
  obtain ⟨i, hw, _⟩ := id hf
  exact r_callVS (n := 0) (As := []) h (m_J3_length hl hf) hw rfl ⟨by decide, by decide, by decide +kernel⟩ d q863 q864 q865 q149 q866 rfl rfl hst hF hL (Nat.zero_le _) (Nat.zero_le _) (kI_go kk) kN_go
theorem c1776 {l : Launch} {G : gG} {X : gX} {cc : ByteArray} {nL F L bc bs pc : Nat} {M : gM} {lv : List (Nat × Value)} {rest : List Value} {a0 : Nat} {K : Int32 → gM → Prop} (hl : l.stackTraces = false) (h : hX l G X cc nL "GlacierMailModel" F L) (d : decode cc pc = .ok (.invokevirtual 122, 3)) (hf : f_len a0 M K) (hst : (rest.map fun v => v.category).sum ≤ 8) (hF : 2 ≤ F) (hL : 40 ≤ L) (kk : ∀ x M1, K x M1 → V l G X bc bs M1 (pc + 3) lv (.int x :: rest)) : V l G X bc bs M pc lv (.ref a0 :: rest) := by
  obtain ⟨i, hw, _⟩ := id hf
  exact r_callVS (n := 0) (As := []) h (m_J3_length hl hf) hw rfl ⟨by decide, by decide, by decide +kernel⟩ d q1776 q864 q865 q149 q866 rfl rfl hst hF hL (Nat.zero_le _) (Nat.zero_le _) (kI_go kk) kN_go
theorem c873 {l : Launch} {G : gG} {X : gX} {cc : ByteArray} {nL F L bc bs pc : Nat} {M : gM} {lv : List (Nat × Value)} {rest : List Value} {a0 : Nat} {a1 : Int32} {K : Int32 → gM → Prop} (hl : l.stackTraces = false) (h : hX l G X cc nL "GlacierMail$Reader" F L) (d : decode cc pc = .ok (.invokevirtual 80, 3)) (hf : f_charAt a0 a1 M K) (hst : (rest.map fun v => v.category).sum ≤ 8) (hF : 4 ≤ F) (hL : 85 ≤ L) (kk : ∀ x M1, K x M1 → V l G X bc bs M1 (pc + 3) lv (.int x :: rest)) : V l G X bc bs M pc lv (.int a1 :: .ref a0 :: rest) := by
  obtain ⟨i, hw, _⟩ := id hf
  exact r_callVS (n := 1) (As := [.int a1]) h (m_J3_charAt hl hf) hw rfl ⟨by decide, by decide, by decide +kernel⟩ d q873 q874 q875 q149 q876 rfl rfl hst hF hL (Nat.zero_le _) (Nat.zero_le _) (kI_go kk) kN_go
theorem c1777 {l : Launch} {G : gG} {X : gX} {cc : ByteArray} {nL F L bc bs pc : Nat} {M : gM} {lv : List (Nat × Value)} {rest : List Value} {a0 : Nat} {a1 : Int32} {K : Int32 → gM → Prop} (hl : l.stackTraces = false) (h : hX l G X cc nL "GlacierMailModel" F L) (d : decode cc pc = .ok (.invokevirtual 127, 3)) (hf : f_charAt a0 a1 M K) (hst : (rest.map fun v => v.category).sum ≤ 8) (hF : 4 ≤ F) (hL : 85 ≤ L) (kk : ∀ x M1, K x M1 → V l G X bc bs M1 (pc + 3) lv (.int x :: rest)) : V l G X bc bs M pc lv (.int a1 :: .ref a0 :: rest) := by
  obtain ⟨i, hw, _⟩ := id hf
  exact r_callVS (n := 1) (As := [.int a1]) h (m_J3_charAt hl hf) hw rfl ⟨by decide, by decide, by decide +kernel⟩ d q1777 q874 q875 q149 q876 rfl rfl hst hF hL (Nat.zero_le _) (Nat.zero_le _) (kI_go kk) kN_go
