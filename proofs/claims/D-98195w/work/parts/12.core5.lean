/-! CORE 5: rows over V: texts, nulls, copies, throws, handlers, statics -/
section ROWS5
variable {l : Launch} {G : gG} {X : gX} {cc : ByteArray} {nL : Nat} {own : String} {F L bc bs : Nat} {M : gM} {pc : Nat} {lv lv' : List (Nat × Value)} {rest : List Value} {a : Nat}
theorem r_ldcS (h : hX l G X cc nL own F L) {i index : Nat} {tx : String} (hi : i < gSN) (hm : (own, index, tx, i) ∈ gSr) (d : decode cc pc = .ok (.ldc index, 2)) (kk : ∀ w, kd M w = some (.inr (10, i)) → V l G X bc bs M (pc + 2) lv (.ref w :: rest)) : V l G X bc bs M pc lv rest := by
  obtain ⟨p, e, R, s, m, args, below, meth, c, Q, nl⟩ := X
  obtain ⟨hx, hb, hml, hnl, hown, hts, hK, hlk, hF, hL, htr⟩ := h
  intro g1 g2 H locs la hR hS hl
  exact va_ldcS hx hb hown (hK.2.2.2.2.2.2.2.2.1 _ hm) d (kk _ (hR.2.2.2 i hi).2 g1 g2 H locs la hR hS hl)
/-- nullable references in locals -/
theorem r_aload_nO (h : hX l G X cc nL own F L) {k : Fin 4} {i : Nat} {x : Option Nat} (q : Nat) (d : decode cc pc = .ok (.aload_n k, 1)) (hi : (k : Nat) = i) (hq : lv[q]? = some (i, va_rf x)) (kk : V l G X bc bs M (pc + 1) lv (va_rf x :: rest)) : V l G X bc bs M pc lv rest := by
  cases x with
  | none => exact r_aload_nN h q d hi hq kk
  | some b => exact r_aload_n h q d hi hq kk
theorem r_aloadO (h : hX l G X cc nL own F L) {i : Nat} {x : Option Nat} (q : Nat) (d : decode cc pc = .ok (.aload i, 2)) (hq : lv[q]? = some (i, va_rf x)) (kk : V l G X bc bs M (pc + 2) lv (va_rf x :: rest)) : V l G X bc bs M pc lv rest := by
  cases x with
  | none => exact r_aloadN h q d hq kk
  | some b => exact r_aload h q d hq kk
theorem r_astore_nO (h : hX l G X cc nL own F L) {k : Fin 4} {i : Nat} {x : Option Nat} (d : decode cc pc = .ok (.astore_n k, 1)) (hi : (k : Nat) = i) (hn : i < nL) (hf : (i, va_rf x) :: lv.filter (fun q => !(q.1 == i) && !(q.1 + 1 == i && q.2.category == 2)) = lv') (kk : V l G X bc bs M (pc + 1) lv' rest) : V l G X bc bs M pc lv (va_rf x :: rest) := by
  cases x with
  | none => exact r_astore_nN h d hi hn hf kk
  | some b => exact r_astore_n h d hi hn hf kk
theorem r_astoreO (h : hX l G X cc nL own F L) {i : Nat} {x : Option Nat} (d : decode cc pc = .ok (.astore i, 2)) (hn : i < nL) (hf : (i, va_rf x) :: lv.filter (fun q => !(q.1 == i) && !(q.1 + 1 == i && q.2.category == 2)) = lv') (kk : V l G X bc bs M (pc + 2) lv' rest) : V l G X bc bs M pc lv (va_rf x :: rest) := by
  cases x with
  | none => exact r_astoreN h d hn hf kk
  | some b => exact r_astore h d hn hf kk
theorem r_ifnullO (h : hX l G X cc nL own F L) {x : Option Nat} {off : Int} {tgt : Nat} (d : decode cc pc = .ok (.ifnull off, 3)) (ht : (pc : Int) + off = (tgt : Int)) (kn : x = none → V l G X bc bs M tgt lv rest) (ks : ∀ b, x = some b → V l G X bc bs M (pc + 3) lv rest) : V l G X bc bs M pc lv (va_rf x :: rest) := by
  cases x with
  | none => exact r_ifnull_y h d ht (kn rfl)
  | some b => exact r_ifnull_n h d (ks b rfl)
/-- a line of the law into an array of lines -/
theorem r_aastoreL (h : hX l G X cc nL own F L) {i : Int32} {b : Nat} (d : decode cc pc = .ok (.aastore, 1)) (hi : inA M a 4 i) (hkb : kd M b = some (.inl 17) ∨ kd M b = some (.inl 18)) (kk : V l G X bc bs (sR M a (ix i) (some b)) (pc + 1) lv rest) : V l G X bc bs M pc lv (.ref b :: .int i :: .ref a :: rest) := by
  rcases hkb with hk | hk
  · exact r_aastore h 4 17 (by decide) (by decide) rfl rfl (Or.inr (by decide +kernel)) d hi hk kk
  · exact r_aastore h 4 18 (by decide) (by decide) rfl rfl (Or.inr (by decide +kernel)) d hi hk kk
theorem r_getsU (h : hX l G X cc nL own F L) {index : Nat} (hlink : Cond.fieldLink own index "java/lang/Throwable" "UNASSIGNED_STACK" "[Ljava/lang/StackTraceElement;" ∈ lw_all) (d : decode cc pc = .ok (.getstatic index, 3)) (kk : ∀ o : Option Nat, V l G X bc bs M (pc + 3) lv (va_rf o :: rest)) : V l G X bc bs M pc lv rest := by
  obtain ⟨p, e, R, s, m, args, below, meth, c, Q, nl⟩ := X
  obtain ⟨hx, hb, hml, hnl, hown, hts, hK, hlk, hF, hL, htr⟩ := h
  intro g1 g2 H locs la hR hS hl
  rcases hK.2.2.2.2.2.2.2.2.2.2.1.1 with hz | ⟨t, hz⟩
  · exact va_gets hx hb hz hS hown (hts _ hlink) (fun _ h9 => h9) d (kk none g1 g2 H locs la hR hS hl)
  · exact va_gets hx hb hz hS hown (hts _ hlink) (fun _ h9 => h9) d (kk (some t) g1 g2 H locs la hR hS hl)
theorem r_getsN (h : hX l G X cc nL own F L) {index : Nat} (hlink : Cond.fieldLink own index "java/lang/Throwable" "SUPPRESSED_SENTINEL" "Ljava/util/List;" ∈ lw_all) (d : decode cc pc = .ok (.getstatic index, 3)) (kk : ∀ o : Option Nat, V l G X bc bs M (pc + 3) lv (va_rf o :: rest)) : V l G X bc bs M pc lv rest := by
  obtain ⟨p, e, R, s, m, args, below, meth, c, Q, nl⟩ := X
  obtain ⟨hx, hb, hml, hnl, hown, hts, hK, hlk, hF, hL, htr⟩ := h
  intro g1 g2 H locs la hR hS hl
  rcases hK.2.2.2.2.2.2.2.2.2.2.2.1.1 with hz | ⟨t, hz⟩
  · exact va_gets hx hb hz hS hown (hts _ hlink) (fun _ h9 => h9) d (kk none g1 g2 H locs la hR hS hl)
  · exact va_gets hx hb hz hS hown (hts _ hlink) (fun _ h9 => h9) d (kk (some t) g1 g2 H locs la hR hS hl)
-- thrown past the rows of a method's table
variable {ret : Option FieldType} {tb : List (Nat × Nat × Nat × Nat)} {ini : String} {K : Option Value → gM → Prop} {KX : Addr → String → gM → Prop}
theorem r_outH (h : hX l G X cc nL own F L) (hq : hQ G X ret tb ini K KX) {q : Addr} {E : String} (hcov : (tableOf tb).all (fun z => !covers z pc) = true) (hk : KX q E M) : VX l G X bc bs M pc lv q E := by
  obtain ⟨p, e, R, s, m, args, below, meth, c, Q, nL⟩ := X
  obtain ⟨hx, hb, hml, hnl, hown, hts, hK, hlk, hF, hL, htr⟩ := h
  obtain ⟨rfl, hret, htab, -⟩ := hq
  intro g1 g2 H locs la rest ce hR hS hl hcell hv hcl
  have hcv : ∀ x ∈ tableOf tb, covers x pc = false := by
    intro x hx
    have h9 := List.all_eq_true.mp hcov x hx
    cases hh : covers x pc with
    | false => rfl
    | true => rw [hh] at h9; cases h9
  exact vx_out (by rw [htab]; exact hcv) hlk hcell hv hcl (fun t ht hW => ⟨M, hk, by rw [ht]; exact hR, hS.F ht⟩) hS.2.2 (Nat.sub_le _ _) (Nat.sub_le _ _)
/-- caught by the k-th row of the method's table -/
theorem r_catch (h : hX l G X cc nL own F L) (hq : hQ G X ret tb ini K KX) (k : Nat) {q : Addr} {E nm : String} {z : Nat × Nat × Nat × Nat} (hz : tb[k]? = some z) (hpass : ∀ x ∈ tb.take k, covers ⟨x.1, x.2.1, x.2.2.1, x.2.2.2⟩ pc = false ∨ (x.2.2.2 ≠ 0 ∧ ∃ n2 : String, Cond.classLink own x.2.2.2 n2 ∈ lw_all ∧ (E, n2) ∈ gNc)) (hcov : covers ⟨z.1, z.2.1, z.2.2.1, z.2.2.2⟩ pc = true) (h0 : z.2.2.2 ≠ 0) (hlink : Cond.classLink own z.2.2.2 nm ∈ lw_all) (hca : (E, nm) ∈ gCa) (kk : V l G X bc bs M z.2.2.1 lv [.ref q]) : VX l G X bc bs M pc lv q E := by
  obtain ⟨p, e, R, s, m, args, below, meth, c, Q, nL⟩ := X
  obtain ⟨hx, hb, hml, hnl, hown, hts, hK, hlk, hF, hL, htr⟩ := h
  obtain ⟨-, hret, htab, -⟩ := hq
  intro g1 g2 H locs la rest ce hR hS hl hcell hv hcl
  have hsplit : c.exceptionTable.toList = tableOf (tb.take k) ++ (⟨z.1, z.2.1, z.2.2.1, z.2.2.2⟩ : ExceptionTableEntry) :: tableOf (tb.drop (k + 1)) := by
    rw [htab]
    have hk : k < tb.length := (List.getElem?_eq_some_iff.mp hz).1
    have hk2 : tb[k] = z := (List.getElem?_eq_some_iff.mp hz).2
    have e1 : tb = tb.take k ++ z :: tb.drop (k + 1) := by rw [← hk2, ← List.drop_eq_getElem_cons hk, List.take_append_drop]
    have e2 : tableOf tb = tableOf (tb.take k ++ z :: tb.drop (k + 1)) := by rw [← e1]
    rw [e2]
    simp [tableOf]
  refine vx_catch hown (tableOf (tb.take k)) ⟨z.1, z.2.1, z.2.2.1, z.2.2.2⟩ (tableOf (tb.drop (k + 1))) hsplit ?_ hcov h0 (hts _ hlink) (va_Nw.use rfl (hK.2.2.2.2.2.1 _ hca)) hcell hv hcl (kk g1 g2 H locs la hR hS hl)
  intro w hw
  obtain ⟨x, hx1, rfl⟩ := List.mem_map.mp hw
  rcases hpass x hx1 with h1 | ⟨h1, n2, h2, h3⟩
  · exact Or.inl h1
  · exact Or.inr ⟨h1, n2, hts _ h2, hK.2.2.2.2.2.2.1 _ h3⟩
def okCI (M : gM) (s d n : Nat) : Prop := ∃ n0 n1, kd M s = some (.inr (0, n0)) ∧ kd M d = some (.inr (0, n1)) ∧ n ≤ n0 ∧ n ≤ n1
def okCR (M : gM) (s d n : Nat) : Prop := ∃ n0 n1, kd M s = some (.inr (4, n0)) ∧ kd M d = some (.inr (4, n1)) ∧ n ≤ n0 ∧ n ≤ n1 ∧ ∀ i, i < n → ∀ y, rv M s i = some y → kd M y = some (.inl 17) ∨ kd M y = some (.inl 18)
theorem gIc (n : Nat) (hn : n < 1000) : ¬ (Int32.ofNat n) < 0 ∧ (Int32.ofNat n).toNatClampNeg = n ∧ (Int32.ofNat n).toInt = (n : Int) := by
  have h1 := nI_pos (n := n) (by omega)
  have h2 := nI_clamp (n := n) (by omega)
  have h3 := nI_toInt (n := n) (by omega)
  exact ⟨h1, h2, h3⟩
/-- 'new E(); throw' -/
theorem r_throw0 (h : hX l G X cc nL own F L) (hq : hQ G X ret [] ini K KX) {cls : String} {names : List String} {ik ic : Nat} (hcls : Bundle.fit cls = true) (hnames : ∀ n ∈ names, Bundle.fit n = true) (hk : Cond.classLink own ik cls ∈ lw_all) (hini : Cond.initialized cls ∈ lw_all) (ha1 : ∀ w ∈ (vx_at0 own ic cls names).filter goodWord, w ∈ lw_all) (B : List Cond) (ha2 : ∀ w ∈ (vx_at0 own ic cls names).filter (fun w => !goodWord w), w ∈ B) (ha3 : ∀ w ∈ B, (∃ y ∈ gDe, w = .declares y) ∨ ∃ q ∈ gCa, w = .castable q.1 q.2) (hgood : ∀ w ∈ Cond.classLink own ik cls :: Cond.initialized cls :: vx_at0 own ic cls names, vx_ot w = true) (hnl : names.length ≤ 2)
    (d0 : decode cc pc = .ok (.new ik, 3)) (d3 : decode cc (pc + 3) = .ok (.dup, 1)) (d4 : decode cc (pc + 4) = .ok (.invokespecial ic, 3)) (d7 : decode cc (pc + 7) = .ok (.athrow, 1)) (h1 : 1 ≤ bc) (h2 : 6 ≤ bs) (hF : 12 ≤ F) (hL : 200 ≤ L) (hst : (rest.map fun v => v.category).sum ≤ 8) (kx : ∀ n, sz M ≤ n → KX (sz M) cls (sZ M n)) : V l G X bc bs M pc lv rest := by
  obtain ⟨p, e, R, s, m, args, below, meth, c, Q, nl⟩ := X
  obtain ⟨hx, hb, hml, hnl9, hown, hts, hK, hlk, hF9, hL9, htr⟩ := h
  obtain ⟨rfl, hret, htab, -⟩ := hq
  intro g1 g2 H locs la hR hS hl
  refine vx_throw0 hx hb htr hown hcls hnames (hts _ hk) (hts _ hini) (vx_hat (B := B) (fun w hw => hts _ (ha1 w hw)) ha2 fun w hw => ?_) hgood hK.2.2.2.2.2.2.2.2.2.2.1 hK.2.2.2.2.2.2.2.2.2.2.2.1 hS (by rw [hml, ← hnl9]; exact hl.1) d0 d3 d4 d7 (by rw [htab]; exact fun x hx => nomatch hx) (by omega) (by omega) (by omega) (by omega) hlk (fun t hA hz hk9 => ⟨sZ M t.heap.size, ?_, ?_, ?_⟩) hS.2.2 (by omega) (by omega)
  · rcases ha3 w hw with ⟨y, hy, rfl⟩ | ⟨q, hq, rfl⟩
    · exact va_Nw.use rfl (hK.2.2.2.2.2.2.2.2.2.2.2.2.2.2.1 y hy)
    · exact va_Nw.use rfl (hK.2.2.2.2.2.1 q hq)
  · rw [hR.1]
    exact kx _ (by rw [← hR.1]; exact hz)
  · refine ⟨rfl, Nat.le_trans hR.2.1 (by rw [← hR.1]; exact hz), fun b => ?_, hR.2.2.2⟩
    have h5 := hR.2.2.1 b
    cases hc : kd M b with
    | none =>
      unfold gAt
      rw [show kd (sZ M t.heap.size) b = none from hc]
      trivial
    | some y =>
      by_cases hy : ∃ i, y = .inr (10, i)
      · obtain ⟨i, rfl⟩ := hy
        unfold gAt at h5 ⊢
        rw [show kd (sZ M t.heap.size) b = _ from hc]
        rw [hc] at h5
        exact h5
      · exact gAt.kept (M := M) rfl rfl rfl rfl (hk9 b (h5.lt hc fun i q => hy ⟨i, q⟩)) h5
  · exact ⟨Nat.le_trans hS.1 hz, fun q q1 q2 => (hk9 q (Nat.lt_of_lt_of_le q1 hS.1)).trans (hS.2.1 q q1 q2)⟩
end ROWS5
