/-! CORE 6: copies, exceptions made and kept, texts' methods -/
section ROWS6
variable {l : Launch} {G : gG} {X : gX} {cc : ByteArray} {nL : Nat} {own : String} {F L bc bs : Nat} {M : gM} {pc : Nat} {lv lv' : List (Nat × Value)} {rest : List Value} {a : Nat}
theorem sCI_ho {d : Nat} {f : Nat → Int32} : ∀ b, b ≠ d → iv (sCI M d f) b = iv M b ∧ rv (sCI M d f) b = rv M b ∧ jv (sCI M d f) b = jv M b := fun _ hb => ⟨if_neg hb, rfl, rfl⟩
theorem sCR_ho {d : Nat} {f : Nat → Option Nat} : ∀ b, b ≠ d → iv (sCR M d f) b = iv M b ∧ rv (sCR M d f) b = rv M b ∧ jv (sCR M d f) b = jv M b := fun _ hb => ⟨rfl, if_neg hb, rfl⟩
theorem r_copyi (h : hX l G X cc nL own F L) {index : Nat} (hlink : Cond.methodLink own index arraycopyName ∈ lw_all) (hnat : Cond.native arraycopyName ∈ lw_all) (hstat : Cond.static arraycopyName ∈ lw_all) (hini : Cond.initialized "java/lang/System" ∈ lw_all) {sr ds n0 : Nat} {n : Int32} (d : decode cc pc = .ok (.invokestatic index, 3)) (hF : 1 ≤ F) (hL : 100 ≤ L) (hst : (rest.map fun v => v.category).sum ≤ 8) (hn : ¬ n < 0) (hN : n.toNatClampNeg = n0) (hok : okCI M sr ds n0)
    (kk : V l G X bc bs (sCI M ds (va_cpy (iv M sr) (iv M ds) 0 0 n0)) (pc + 3) lv rest) : V l G X bc bs M pc lv (.int n :: .int 0 :: .ref ds :: .int 0 :: .ref sr :: rest) := by
  obtain ⟨p, e, R, s, m, args, below, meth, c, Q, nl⟩ := X
  obtain ⟨hx, hb, hml, hnl, hown, hts, hK, hlk, hF9, hL9, htr⟩ := h
  intro g1 g2 H locs la hR hS hl T hT X
  obtain ⟨m0, m1, k0, k1, l0, l1⟩ := hok
  obtain ⟨ha0, ht, hc0⟩ := gAr hR k0 (by decide)
  obtain ⟨ha1, -, hc1⟩ := gAr hR k1 (by decide)
  have e0 : vp_cell (gGA G 0) (gAc M sr 0 m0) = vp_cell (gGA G 0) (m0, .inl (iv M sr)) := rfl
  have e1 : vp_cell (gGA G 0) (gAc M ds 0 m1) = vp_cell (gGA G 0) (m1, .inl (iv M ds)) := rfl
  rw [e0] at hc0
  rw [e1] at hc1
  obtain ⟨-, q0, hq0, cm0, hkk0⟩ := (hK.2.1 0 ht).1 m0 (fun j => .int (iv M sr j))
  have hz : ((0 : Int32)).toNatClampNeg = 0 := by decide
  have hni : n.toInt = (n0 : Int) := by
    have hz0 : (0 : Int) ≤ n.toInt := by
      have := Int32.not_lt.mp hn
      simpa using Int32.le_iff_toInt_le.mp this
    rw [← hN]
    show n.toInt = ((n.toInt.toNat : Nat) : Int)
    omega
  have hzi : ((0 : Int32)).toInt = 0 := by decide
  obtain ⟨vm', X', step⟩ := X.arraycopy hx hown (hts _ hlink) (hts _ hnat) (hts _ hstat) (hts _ hini) (src := sr) (dst := ds) (cs := vp_cell (gGA G 0) (m0, .inl (iv M sr))) (cd := vp_cell (gGA G 0) (m1, .inl (iv M ds))) (srcPos := 0) (destPos := 0) (n := n) (by rw [hT]; exact hc0) (by rw [hT]; exact hc1)
    (fun _ h => by cases h) (fun _ h => by cases h) (fun h => by cases h) (fun h => by cases h) hq0 hq0 hkk0 hkk0 rfl (by decide) (by decide) hn
    (by rw [hzi, hni]; show ¬ _ > ((arrV _ m0 (fun j => .int (iv M sr j))).slots.size : Int); rw [arrV_size]; omega)
    (by rw [hzi, hni]; show ¬ _ > ((arrV _ m1 (fun j => .int (iv M ds j))).slots.size : Int); rw [arrV_size]; omega)
    (fun vm₁ _ i hi => by
      have e : (vp_cell (gGA G 0) (m0, .inl (iv M sr))).slots.getD ((0 : Int32).toNatClampNeg + i) .null = .int (iv M sr ((0 : Int32).toNatClampNeg + i)) := by
        show (arrV _ m0 (fun j => .int (iv M sr j))).slots.getD _ _ = _
        rw [Array.getD_eq_getD_getElem?, arrV_read _ _ (by rw [hz]; omega)]
        rfl
      rw [e]
      exact ⟨rfl, trivial⟩)
    (g := F0 m pc la (.int n :: .int 0 :: .ref ds :: .int 0 :: .ref sr :: rest)) rfl (by rw [hml, ← hnl]; exact hl.1) (rest := rest) rfl (by rw [hb]; exact d) (Nat.le_trans hF hF9) (by
      have h8 : nativeFrameWords "java/lang/System" "arraycopy" 5 + 11 ≤ 90 := by decide
      show 2 * 0 + _ + _ ≤ _; omega)
  have e2 : copied (vp_cell (gGA G 0) (m0, .inl (iv M sr))) (vp_cell (gGA G 0) (m1, .inl (iv M ds))) 0 0 n = vp_cell (gGA G 0) (m1, .inl (va_cpy (iv M sr) (iv M ds) (0 : Int32).toNatClampNeg (0 : Int32).toNatClampNeg n.toNatClampNeg)) := va_copied (fun z => .int z) (gGA G 0) (gGA G 0) (iv M sr) (iv M ds) (by rw [hz, hN]; omega)
  rw [e2, hz, hN] at X' step
  have hlt : ds < H.size := (Array.getElem?_eq_some_iff.mp hc1).1
  have hheap : ((T.setVm vm').setCell ds (vp_cell (gGA G 0) (m1, .inl (va_cpy (iv M sr) (iv M ds) 0 0 n0)))).heap = H.setIfInBounds ds (vp_cell (gGA G 0) (m1, .inl (va_cpy (iv M sr) (iv M ds) 0 0 n0))) := by rw [← hT]; rfl
  have oq : ∀ q : Nat, q ≠ ds → (H.setIfInBounds ds (vp_cell (gGA G 0) (m1, .inl (va_cpy (iv M sr) (iv M ds) 0 0 n0))))[q]? = H[q]? := fun q hq => by simp [Array.getElem?_setIfInBounds, Ne.symm hq]
  have hR1 : Rp G (sCI M ds (va_cpy (iv M sr) (iv M ds) 0 0 n0)) (H.setIfInBounds ds (vp_cell (gGA G 0) (m1, .inl (va_cpy (iv M sr) (iv M ds) 0 0 n0)))) := by
    refine hR.put rfl rfl (by simp) oq sCI_ho (gAt_arr (t := 0) (n := m1) k1 ha1 ht ?_)
    simp only [Array.getElem?_setIfInBounds, hlt, if_true]
    show some (vp_cell (gGA G 0) (m1, .inl _)) = some (vp_cell (gGA G 0) (m1, .inl (iv (sCI M ds _) ds)))
    rw [show iv (sCI M ds (va_cpy (iv M sr) (iv M ds) 0 0 n0)) ds = va_cpy (iv M sr) (iv M ds) 0 0 n0 from if_pos rfl]
  obtain ⟨t, a1, b1⟩ := kk g1 g2 _ _ la hR1 ⟨by simp; exact hS.1, fun q g1 g2 => by
      rw [oq q (fun e => g2 (by rw [e]; exact ha1))]
      exact hS.2.1 q g1 g2, fun q hq => by
      rcases List.mem_append.mp hq with h | h
      · exact hS.2.2 q h
      · obtain ⟨z, -, hz⟩ := List.mem_map.mp h
        rw [← hz]
        exact ha1⟩ hl _ hheap X'
  exact ⟨t, step t a1, b1⟩
theorem r_copyq (h : hX l G X cc nL own F L) {index : Nat} (hlink : Cond.methodLink own index arraycopyName ∈ lw_all) (hnat : Cond.native arraycopyName ∈ lw_all) (hstat : Cond.static arraycopyName ∈ lw_all) (hini : Cond.initialized "java/lang/System" ∈ lw_all) {sr ds n0 : Nat} {n : Int32} (d : decode cc pc = .ok (.invokestatic index, 3)) (hF : 1 ≤ F) (hL : 100 ≤ L) (hst : (rest.map fun v => v.category).sum ≤ 8) (hn : ¬ n < 0) (hN : n.toNatClampNeg = n0) (hok : okCR M sr ds n0)
    (kk : V l G X bc bs (sCR M ds (va_cpy (rv M sr) (rv M ds) 0 0 n0)) (pc + 3) lv rest) : V l G X bc bs M pc lv (.int n :: .int 0 :: .ref ds :: .int 0 :: .ref sr :: rest) := by
  obtain ⟨p, e, R, s, m, args, below, meth, c, Q, nl⟩ := X
  obtain ⟨hx, hb, hml, hnl, hown, hts, hK, hlk, hF9, hL9, htr⟩ := h
  intro g1 g2 H locs la hR hS hl T hT X
  obtain ⟨m0, m1, k0, k1, l0, l1, hel⟩ := hok
  obtain ⟨ha0, ht, hc0⟩ := gAr hR k0 (by decide)
  obtain ⟨ha1, -, hc1⟩ := gAr hR k1 (by decide)
  rw [gAcR (by decide)] at hc0
  rw [gAcR (by decide)] at hc1
  obtain ⟨-, q0, hq0, cm0, hkk0⟩ := (hK.2.1 4 ht).1 m0 (fun j => va_rf (rv M sr j))
  have hz : ((0 : Int32)).toNatClampNeg = 0 := by decide
  have hni : n.toInt = (n0 : Int) := by
    have hz0 : (0 : Int) ≤ n.toInt := by
      have := Int32.not_lt.mp hn
      simpa using Int32.le_iff_toInt_le.mp this
    rw [← hN]
    show n.toInt = ((n.toInt.toNat : Nat) : Int)
    omega
  have hzi : ((0 : Int32)).toInt = 0 := by decide
  have hRA : va_RA s (gGA G 4) (.object "GlacierMail$Line") := (hK.2.1 4 ht).2
  obtain ⟨kA, comp, r1, r2, r3, -⟩ := hRA
  obtain ⟨vm', X', step⟩ := X.arraycopy hx hown (hts _ hlink) (hts _ hnat) (hts _ hstat) (hts _ hini) (src := sr) (dst := ds) (cs := vp_cell (gGA G 4) (m0, .inr (.inr (.inr (.inr (rv M sr)))))) (cd := vp_cell (gGA G 4) (m1, .inr (.inr (.inr (.inr (rv M ds)))))) (srcPos := 0) (destPos := 0) (n := n) (by rw [hT]; exact hc0) (by rw [hT]; exact hc1)
    (fun _ h => by cases h) (fun _ h => by cases h) (fun h => by cases h) (fun h => by cases h) hq0 hq0 hkk0 hkk0 rfl (by decide) (by decide) hn
    (by rw [hzi, hni]; show ¬ _ > ((arrV _ m0 (fun j => va_rf (rv M sr j))).slots.size : Int); rw [arrV_size]; omega)
    (by rw [hzi, hni]; show ¬ _ > ((arrV _ m1 (fun j => va_rf (rv M ds j))).slots.size : Int); rw [arrV_size]; omega)
    (fun vm₁ hal i hi => by
      have e : (vp_cell (gGA G 4) (m0, .inr (.inr (.inr (.inr (rv M sr)))))).slots.getD ((0 : Int32).toNatClampNeg + i) .null = va_rf (rv M sr ((0 : Int32).toNatClampNeg + i)) := by
        show (arrV _ m0 (fun j => va_rf (rv M sr j))).slots.getD _ _ = _
        rw [Array.getD_eq_getD_getElem?, arrV_read _ _ (by rw [hz]; omega)]
        rfl
      rw [e]
      cases hy : rv M sr ((0 : Int32).toNatClampNeg + i) with
      | none => exact ⟨rfl, trivial⟩
      | some y =>
        have hkd := hel i (by omega) y (by rw [hz, Nat.zero_add] at hy; exact hy)
        cases hq0.symm.trans r1
        cases hkk0.symm.trans r2
        have hcell : ∃ (ci : Nat) (q : vw_C) (cellV : Cell), gCl[ci]? = some q ∧ H[y]? = some cellV ∧ cellV.vm.isStatics = false ∧ s.vm.findClass q.1 = some cellV.cls ∧ (q.1, "GlacierMail$Line") ∈ gCa := by
          rcases hkd with hkd | hkd
          · obtain ⟨cellV, w1, w2, w3⟩ := gRecv (s := s) hR hK hkd (q := (RX17, TX17, 2)) rfl
            exact ⟨17, _, cellV, rfl, w1, w2, w3, by decide +kernel⟩
          · obtain ⟨cellV, w1, w2, w3⟩ := gRecv (s := s) hR hK hkd (q := (RX18, TX18, 1)) rfl
            exact ⟨18, _, cellV, rfl, w1, w2, w3, by decide +kernel⟩
        obtain ⟨ci, q, cellV, -, w1, w2, w3, w4⟩ := hcell
        obtain ⟨c3, c4, f1, f2, f3⟩ := Cond.castable_spec (va_Nw.use (A := args) rfl (hK.2.2.2.2.2.1 _ w4))
        cases f1.symm.trans w3
        cases f2.symm.trans r3
        obtain ⟨kC, hkC, -⟩ := Vm.findClass_spec w3
        obtain ⟨kE, hkE, -⟩ := Vm.findClass_spec r3
        obtain ⟨kC', hkC', -⟩ := hal.2.2 _ _ hkC
        obtain ⟨kE', hkE', -⟩ := hal.2.2 _ _ hkE
        refine ⟨rfl, cellV, (show T.heap[y]? = some cellV by rw [hT]; exact w1), (fun q h => by rw [h] at w2; cases w2), ⟨kC', hkC'⟩, ?_, ?_⟩
        · exact ⟨kE', hkE'⟩
        · show vm₁.assignable _ _ = true
          rw [hal.assignable]
          exact f3)
    (g := F0 m pc la (.int n :: .int 0 :: .ref ds :: .int 0 :: .ref sr :: rest)) rfl (by rw [hml, ← hnl]; exact hl.1) (rest := rest) rfl (by rw [hb]; exact d) (Nat.le_trans hF hF9) (by
      have h8 : nativeFrameWords "java/lang/System" "arraycopy" 5 + 11 ≤ 90 := by decide
      show 2 * 0 + _ + _ ≤ _; omega)
  have e2 : copied (vp_cell (gGA G 4) (m0, .inr (.inr (.inr (.inr (rv M sr)))))) (vp_cell (gGA G 4) (m1, .inr (.inr (.inr (.inr (rv M ds)))))) 0 0 n = vp_cell (gGA G 4) (m1, .inr (.inr (.inr (.inr (va_cpy (rv M sr) (rv M ds) (0 : Int32).toNatClampNeg (0 : Int32).toNatClampNeg n.toNatClampNeg))))) := by
    rw [vp_cell_q, vp_cell_q, vp_cell_q]
    exact va_copied (fun z => va_rf z) (gGA G 4) (gGA G 4) (rv M sr) (rv M ds) (by rw [hz, hN]; omega)
  rw [e2, hz, hN] at X' step
  have hlt : ds < H.size := (Array.getElem?_eq_some_iff.mp hc1).1
  have hheap : ((T.setVm vm').setCell ds (vp_cell (gGA G 4) (m1, .inr (.inr (.inr (.inr (va_cpy (rv M sr) (rv M ds) 0 0 n0))))))).heap = H.setIfInBounds ds (vp_cell (gGA G 4) (m1, .inr (.inr (.inr (.inr (va_cpy (rv M sr) (rv M ds) 0 0 n0)))))) := by rw [← hT]; rfl
  have oq : ∀ q : Nat, q ≠ ds → (H.setIfInBounds ds (vp_cell (gGA G 4) (m1, .inr (.inr (.inr (.inr (va_cpy (rv M sr) (rv M ds) 0 0 n0)))))))[q]? = H[q]? := fun q hq => by simp [Array.getElem?_setIfInBounds, Ne.symm hq]
  have hR1 : Rp G (sCR M ds (va_cpy (rv M sr) (rv M ds) 0 0 n0)) (H.setIfInBounds ds (vp_cell (gGA G 4) (m1, .inr (.inr (.inr (.inr (va_cpy (rv M sr) (rv M ds) 0 0 n0))))))) := by
    refine hR.put rfl rfl (by simp) oq sCR_ho (gAt_arr (t := 4) (n := m1) k1 ha1 ht ?_)
    rw [gAcR (by decide)]
    simp only [Array.getElem?_setIfInBounds, hlt, if_true]
    rw [show rv (sCR M ds (va_cpy (rv M sr) (rv M ds) 0 0 n0)) ds = va_cpy (rv M sr) (rv M ds) 0 0 n0 from if_pos rfl]
  obtain ⟨t, a1, b1⟩ := kk g1 g2 _ _ la hR1 ⟨by simp; exact hS.1, fun q g1 g2 => by
      rw [oq q (fun e => g2 (by rw [e]; exact ha1))]
      exact hS.2.1 q g1 g2, fun q hq => by
      rcases List.mem_append.mp hq with h | h
      · exact hS.2.2 q h
      · obtain ⟨z, -, hz⟩ := List.mem_map.mp h
        rw [← hz]
        exact ha1⟩ hl _ hheap X'
  exact ⟨t, step t a1, b1⟩
end ROWS6
