/-! CORE 3: rows over V: fields, arrays, new, ends, calls, throws -/
theorem gAt.kept {G : gG} {M M' : gM} {H H1 : Heap} {b : Nat} (hk : kd M' b = kd M b) (hi : iv M' b = iv M b) (hr : rv M' b = rv M b) (hj : jv M' b = jv M b) (hH : H1[b]? = H[b]?) (h : gAt G M b H) : gAt G M' b H1 := by
  unfold gAt at h ⊢
  rw [hk]
  cases hc : kd M b with
  | none => trivial
  | some x =>
    rw [hc] at h
    cases x with
    | inl ci =>
      dsimp only at h ⊢
      obtain ⟨h2, r, h3, h4⟩ := h
      refine ⟨h2, r, h3, (h4.kept hH).to fun k _ => ?_⟩
      unfold fv
      rw [hi, hr]
    | inr tn =>
      obtain ⟨t, n⟩ := tn
      dsimp only at h ⊢
      by_cases h1 : t = 10
      · rw [if_pos h1] at h ⊢
        exact h
      · rw [if_neg h1] at h ⊢
        obtain ⟨h2, h3, h4⟩ := h
        refine ⟨h2, h3, ?_⟩
        rw [hH, h4]
        unfold gAc
        rw [hi, hr, hj]
/-- one cell written -/
theorem Rp.put {G : gG} {M M' : gM} {H H1 : Heap} {a : Nat} (h : Rp G M H) (hk : kd M' = kd M) (hz : sz M' = sz M) (hs : H1.size = H.size) (oq : ∀ q : Nat, q ≠ a → H1[q]? = H[q]?) (ho : ∀ b, b ≠ a → iv M' b = iv M b ∧ rv M' b = rv M b ∧ jv M' b = jv M b) (ha : gAt G M' a H1) : Rp G M' H1 := by
  obtain ⟨h1, h2, h3, h4⟩ := h
  refine ⟨by rw [hs, h1, hz], by rw [hz]; exact h2, fun b => ?_, fun i hi => by rw [hk]; exact h4 i hi⟩
  by_cases hb : b = a
  · rw [hb]; exact ha
  · exact gAt.kept (by rw [hk]) (ho b hb).1 (ho b hb).2.1 (ho b hb).2.2 (oq b hb) (h3 b)
theorem gAt.lt {G : gG} {M : gM} {H : Heap} {a : Nat} {x : Nat ⊕ (Nat × Nat)} (h : gAt G M a H) (hk : kd M a = some x) (hx : ∀ i, x ≠ .inr (10, i)) : a < H.size := by
  unfold gAt at h
  rw [hk] at h
  cases x with
  | inl ci =>
    dsimp only at h
    obtain ⟨-, r, -, cell, h2, -⟩ := h
    exact (Array.getElem?_eq_some_iff.mp h2).1
  | inr tn =>
    obtain ⟨t, n⟩ := tn
    dsimp only at h
    have h1 : ¬ t = 10 := fun q => hx n (by rw [q])
    rw [if_neg h1] at h
    exact (Array.getElem?_eq_some_iff.mp h.2.2).1
/-- a cell made -/
theorem Rp.new {G : gG} {M : gM} {H H1 : Heap} {x : Nat ⊕ (Nat × Nat)} (h : Rp G M H) (hs : H1.size = H.size + 1) (oq : ∀ q : Nat, q < H.size → H1[q]? = H[q]?) (ha : gAt G (sN M x) (sz M) H1) : Rp G (sN M x) H1 := by
  obtain ⟨h1, h2, h3, h4⟩ := h
  refine ⟨by rw [hs, h1]; rfl, Nat.le_succ_of_le h2, fun b => ?_, fun i hi => ⟨(h4 i hi).1, ?_⟩⟩
  · by_cases hb : b = sz M
    · rw [hb]; exact ha
    · have e1 : kd (sN M x) b = kd M b := if_neg hb
      have e2 : iv (sN M x) b = iv M b := funext fun j => if_neg hb
      have e3 : rv (sN M x) b = rv M b := funext fun j => if_neg hb
      have e4 : jv (sN M x) b = jv M b := funext fun j => if_neg hb
      by_cases hl : b < H.size
      · exact gAt.kept e1 e2 e3 e4 (oq b hl) (h3 b)
      · have h5 := h3 b
        cases hc : kd M b with
        | none => unfold gAt; rw [e1, hc]; trivial
        | some y =>
          by_cases hy : ∃ i, y = .inr (10, i)
          · obtain ⟨i, rfl⟩ := hy
            unfold gAt at h5 ⊢
            rw [e1]
            rw [hc] at h5 ⊢
            exact h5
          · exact absurd (h5.lt hc fun i q => hy ⟨i, q⟩) hl
  · have h6 : gSt G i ≠ sz M := fun q => by have := (h4 i hi).1; omega
    exact (if_neg h6).trans (h4 i hi).2
theorem u2_ne {α : Type} {f : Nat → Nat → α} {a k b : Nat} {v : α} (h : b ≠ a) : u2 f a k v b = f b := funext fun j => if_neg fun q => h q.1
theorem u2_eq {α : Type} {f : Nat → Nat → α} {a k : Nat} {v : α} : u2 f a k v a = fun j => if j = k then v else f a j := funext fun j => by
  unfold u2
  by_cases h : j = k
  · rw [if_pos ⟨rfl, h⟩, if_pos h]
  · rw [if_neg (fun q => h q.2), if_neg h]
theorem u2_at {α : Type} {f : Nat → Nat → α} {a k j : Nat} {v : α} : u2 f a k v a j = if j = k then v else f a j := congrFun u2_eq j
section ROWS3
variable {l : Launch} {G : gG} {X : gX} {cc : ByteArray} {nL : Nat} {own : String} {F L bc bs : Nat} {M : gM} {pc : Nat} {lv lv' : List (Nat × Value)} {rest : List Value} {a : Nat}
/-- the object at a, out of its kind -/
theorem gOb {H : Heap} {ci : Nat} {q : vw_C} (hR : Rp G M H) (hkd : kd M a = some (.inl ci)) (hc : gCl[ci]? = some q) : gN0 G ≤ a ∧ t_OB a ((gGD G).1 ci) q.2.2 ((gGD G).2 ci) H (fv M ci a) := by
  have h := hR.2.2.1 a
  unfold gAt at h
  rw [hkd] at h
  obtain ⟨h1, r, h2, h3⟩ := h
  cases h2.symm.trans hc
  exact ⟨h1, h3⟩
theorem gAr {H : Heap} {t n : Nat} (hR : Rp G M H) (hkd : kd M a = some (.inr (t, n))) (h10 : t ≠ 10) : gN0 G ≤ a ∧ t < 10 ∧ H[a]? = some (vp_cell (gGA G t) (gAc M a t n)) := by
  have h := hR.2.2.1 a
  unfold gAt at h
  rw [hkd] at h
  dsimp only at h
  rw [if_neg h10] at h
  exact h
theorem r_get (h : hX l G X cc nL own F L) (ci : Nat) {C : String} {T : u_T} {N : Nat} (hin : ∀ w ∈ u_ws C T N, w ∈ lw_all) (hc : gCl[ci]? = some (C, T, N)) (k : Nat) (hk : k < N) {index : Nat} (hlink : Cond.fieldLink own index (T k).1 (T k).2.1 (T k).2.2.1 ∈ lw_all) (d : decode cc pc = .ok (.getfield index, 3)) {v : Value} (hv : fv M ci a k = v) (hkd : kd M a = some (.inl ci))
    (kk : V l G X bc bs M (pc + 3) lv (v :: rest)) : V l G X bc bs M pc lv (.ref a :: rest) := by
  obtain ⟨p, e, R, s, m, args, below, meth, c, Q, n⟩ := X
  obtain ⟨hx, hb, hml, hn, hown, hts, hK, hlk, hF, hL, htr⟩ := h
  intro g1 g2 H locs la hR hS hl
  obtain ⟨-, cell, q1, q2, q3, q4⟩ := gOb hR hkd hc
  obtain ⟨hSl, hfc, kC, hkC, hkind⟩ := hK.1 ci _ hc
  obtain ⟨cf, kf, fi, f, hi, hsl⟩ := hSl k hk
  refine W.getf hx hb hown (hts _ hlink) hi (u_facts hfc hkC (u_lays hts hin hk) hi).1 q1 (by rw [q3]; exact fun h => by cases h) (v := v) ?_ rfl rfl d (kk g1 g2 H locs la hR hS hl)
  rw [hsl, ← hv]
  exact q4 k hk
theorem r_getN (h : hX l G X cc nL own F L) (ci : Nat) {C : String} {T : u_T} {N : Nat} (hin : ∀ w ∈ u_ws C T N, w ∈ lw_all) (hc : gCl[ci]? = some (C, T, N)) (k : Nat) (hk : k < N) {index : Nat} {host : String} (hlink : (own, index, (T k).1, (T k).2.1, (T k).2.2.1, host) ∈ gNF) (d : decode cc pc = .ok (.getfield index, 3)) {v : Value} (hv : fv M ci a k = v) (hkd : kd M a = some (.inl ci))
    (kk : V l G X bc bs M (pc + 3) lv (v :: rest)) : V l G X bc bs M pc lv (.ref a :: rest) := by
  obtain ⟨p, e, R, s, m, args, below, meth, c, Q, n⟩ := X
  obtain ⟨hx, hb, hml, hn, hown, hts, hK, hlk, hF, hL, htr⟩ := h
  intro g1 g2 H locs la hR hS hl
  obtain ⟨-, cell, q1, q2, q3, q4⟩ := gOb hR hkd hc
  obtain ⟨hSl, hfc, kC, hkC, hkind⟩ := hK.1 ci _ hc
  obtain ⟨cf, kf, fi, f, hi, hsl⟩ := hSl k hk
  refine va_Wgetf hx hb hown (va_Nw.use rfl (hK.2.2.1 _ hlink)) hi (u_facts hfc hkC (u_lays hts hin hk) hi).1 q1 (by rw [q3]; exact fun h => by cases h) (v := v) ?_ rfl rfl d (kk g1 g2 H locs la hR hS hl)
  rw [hsl, ← hv]
  exact q4 k hk
/-- a field's slots are apart -/
theorem gApart {s : State} {args : Array Value} (hts : ∀ w ∈ lw_all, w.before args s = true) {ci : Nat} {C : String} {T : u_T} {N : Nat} (hin : ∀ w ∈ u_ws C T N, w ∈ lw_all) (ty0 : Nat → FieldType) (hty : ∀ k, k < N → parseFieldDescriptor (T k).2.2.1 = some (ty0 k)) (hnm : ∀ a, a < N → ∀ b, b < N → a ≠ b → (T a).2.1 ≠ (T b).2.1) (hK : KK G s) (hc : gCl[ci]? = some (C, T, N)) : ∀ x y, x < N → y < N → x ≠ y → (gGD G).2 ci x ≠ (gGD G).2 ci y := by
  intro x y hx hy hne
  obtain ⟨hS, -⟩ := hK.1 ci _ hc
  obtain ⟨_, _, _, fa, hia, ea⟩ := hS x hx
  obtain ⟨_, _, _, fb, hib, eb⟩ := hS y hy
  rw [← ea, ← eb]
  refine u_apart (u_lays hts hin hx) (u_lays hts hin hy) hia hib ?_
  rw [(State.fieldFound?_type hia (hty x hx)).1, (State.fieldFound?_type hib (hty y hy)).1]
  exact hnm x hx y hy hne
/-- the world with a field written is what the heap shows -/
theorem gPutOk {H H1 : Heap} {M' : gM} {ci k N : Nat} {C : String} {T : u_T} {v : Value} {cell : Cell} (hR : Rp G M H) (hkd : kd M a = some (.inl ci)) (hc : gCl[ci]? = some (C, T, N)) (ha : gN0 G ≤ a) (q2 : cell.cls = (gGD G).1 ci) (q3 : cell.vm = .none) (q4 : ∀ k, k < N → cell.slots[(gGD G).2 ci k]? = some (fv M ci a k)) (hap : ∀ x y, x < N → y < N → x ≠ y → (gGD G).2 ci x ≠ (gGD G).2 ci y) (hk : k < N)
    (e1 : H1[a]? = some (cell.setSlot ((gGD G).2 ci k) v)) (e2 : H1.size = H.size) (e3 : ∀ q : Nat, q ≠ a → H1[q]? = H[q]?) (hk' : kd M' = kd M) (hz : sz M' = sz M) (ho : ∀ b, b ≠ a → iv M' b = iv M b ∧ rv M' b = rv M b ∧ jv M' b = jv M b) (hv : fv M' ci a k = v) (hvo : ∀ j, j ≠ k → fv M' ci a j = fv M ci a j) : Rp G M' H1 := by
  refine hR.put hk' hz e2 e3 ho ?_
  unfold gAt
  rw [hk', hkd]
  refine ⟨ha, _, hc, t_OB.to (V := updV (fv M ci a) k v) ⟨_, e1, q2, q3, t_set q4 hap hk v⟩ fun j _ => ?_⟩
  unfold updV
  by_cases hj : j = k
  · rw [if_pos hj, hj, hv]
  · rw [if_neg hj, hvo j hj]
theorem r_put (h : hX l G X cc nL own F L) (ci : Nat) {C : String} {T : u_T} {N : Nat} (hin : ∀ w ∈ u_ws C T N, w ∈ lw_all) (ty0 : Nat → FieldType) (hty : ∀ k, k < N → parseFieldDescriptor (T k).2.2.1 = some (ty0 k)) (hnm : ∀ a, a < N → ∀ b, b < N → a ≠ b → (T a).2.1 ≠ (T b).2.1) (hc : gCl[ci]? = some (C, T, N)) (k : Nat) (hk : k < N) {index : Nat} (hlink : Cond.fieldLink own index (T k).1 (T k).2.1 (T k).2.2.1 ∈ lw_all) (hfin : (T k).2.2.2 = false) (d : decode cc pc = .ok (.putfield index, 3)) {v : Value} (hn : narrow (ty0 k) v = v) (hfit : fits (ty0 k) v = true) (hkd : kd M a = some (.inl ci)) (M' : gM) (hk' : kd M' = kd M) (hz : sz M' = sz M) (ho : ∀ b, b ≠ a → iv M' b = iv M b ∧ rv M' b = rv M b ∧ jv M' b = jv M b) (hv : fv M' ci a k = v) (hvo : ∀ j, j ≠ k → fv M' ci a j = fv M ci a j)
    (kk : V l G X bc bs M' (pc + 3) lv rest) : V l G X bc bs M pc lv (v :: .ref a :: rest) := by
  obtain ⟨p, e, R, s, m, args, below, meth, c, Q, nl⟩ := X
  obtain ⟨hx, hb, hml, hnl, hown, hts, hK, hlk, hF, hL, htr⟩ := h
  intro g1 g2 H locs la hR hS hl
  obtain ⟨ha, cell, q1, q2, q3, q4⟩ := gOb hR hkd hc
  have hap := gApart hts hin ty0 hty hnm hK hc
  obtain ⟨hSl, hfc, kC, hkC, hkind⟩ := hK.1 ci _ hc
  obtain ⟨cf, kf, fi, f, hi, hsl⟩ := hSl k hk
  have hlay := hts _ (hin _ (u_in_lay hk))
  unfold u_lay at hlay
  rw [if_neg (by rw [hfin]; decide)] at hlay
  have hst := (u_facts hfc hkC (u_lays hts hin hk) hi).1
  have h6 := u_store hfc hkC hkind hlay hi (hty k hk) hn hfit
  refine W.putK hx hb (f := f) ⟨hown, hts _ hlink, ⟨_, _, _, hi⟩, hst⟩ (by rw [q2]; exact h6) q1 q3 (by rw [hsl]; exact k2_hasslot (q4 k hk)) rfl rfl d fun H1 e1 e2 e3 => ?_
  rw [hsl] at e1 ⊢
  exact kk g1 g2 H1 _ la (gPutOk hR hkd hc ha q2 q3 q4 hap hk e1 e2 e3 hk' hz ho hv hvo) (hS.put e2 e3 ha) hl
theorem r_putN (h : hX l G X cc nL own F L) (ci : Nat) {C : String} {T : u_T} {N : Nat} (hin : ∀ w ∈ u_ws C T N, w ∈ lw_all) (ty0 : Nat → FieldType) (hty : ∀ k, k < N → parseFieldDescriptor (T k).2.2.1 = some (ty0 k)) (hnm : ∀ a, a < N → ∀ b, b < N → a ≠ b → (T a).2.1 ≠ (T b).2.1) (hc : gCl[ci]? = some (C, T, N)) (k : Nat) (hk : k < N) {index : Nat} {host : String} (hlink : (own, index, (T k).1, (T k).2.1, (T k).2.2.1, host) ∈ gNF) (hfin : (T k).2.2.2 = false) (d : decode cc pc = .ok (.putfield index, 3)) {v : Value} (hn : narrow (ty0 k) v = v) (hfit : fits (ty0 k) v = true) (hkd : kd M a = some (.inl ci)) (M' : gM) (hk' : kd M' = kd M) (hz : sz M' = sz M) (ho : ∀ b, b ≠ a → iv M' b = iv M b ∧ rv M' b = rv M b ∧ jv M' b = jv M b) (hv : fv M' ci a k = v) (hvo : ∀ j, j ≠ k → fv M' ci a j = fv M ci a j)
    (kk : V l G X bc bs M' (pc + 3) lv rest) : V l G X bc bs M pc lv (v :: .ref a :: rest) := by
  obtain ⟨p, e, R, s, m, args, below, meth, c, Q, nl⟩ := X
  obtain ⟨hx, hb, hml, hnl, hown, hts, hK, hlk, hF, hL, htr⟩ := h
  intro g1 g2 H locs la hR hS hl
  obtain ⟨ha, cell, q1, q2, q3, q4⟩ := gOb hR hkd hc
  have hap := gApart hts hin ty0 hty hnm hK hc
  obtain ⟨hSl, hfc, kC, hkC, hkind⟩ := hK.1 ci _ hc
  obtain ⟨cf, kf, fi, f, hi, hsl⟩ := hSl k hk
  have hlay := hts _ (hin _ (u_in_lay hk))
  unfold u_lay at hlay
  rw [if_neg (by rw [hfin]; decide)] at hlay
  have hst := (u_facts hfc hkC (u_lays hts hin hk) hi).1
  have h6 := u_store hfc hkC hkind hlay hi (hty k hk) hn hfit
  refine va_WputK hx hb hown (va_Nw.use rfl (hK.2.2.1 _ hlink)) hi hst (by rw [q2]; exact h6) q1 q3 (by rw [hsl]; exact k2_hasslot (q4 k hk)) rfl rfl d fun H1 e1 e2 e3 => ?_
  rw [hsl] at e1 ⊢
  exact kk g1 g2 H1 _ la (gPutOk hR hkd hc ha q2 q3 q4 hap hk e1 e2 e3 hk' hz ho hv hvo) (hS.put e2 e3 ha) hl
/-- a final field, in the constructor of its class -/
theorem r_putF {ret : Option FieldType} {tb : List (Nat × Nat × Nat × Nat)} {K : Option Value → gM → Prop} {KX : Addr → String → gM → Prop} (h : hX l G X cc nL own F L) (hq : hQ G X ret tb "<init>" K KX) (ci : Nat) {C : String} {T : u_T} {N : Nat} (hin : ∀ w ∈ u_ws C T N, w ∈ lw_all) (ty0 : Nat → FieldType) (hty : ∀ k, k < N → parseFieldDescriptor (T k).2.2.1 = some (ty0 k)) (hnm : ∀ a, a < N → ∀ b, b < N → a ≠ b → (T a).2.1 ≠ (T b).2.1) (hc : gCl[ci]? = some (C, T, N)) (k : Nat) (hk : k < N) {index : Nat} (hlink : Cond.fieldLink own index (T k).1 (T k).2.1 (T k).2.2.1 ∈ lw_all) (hfin : (T k).2.2.2 = true) (hdecl : (T k).1 = own) (d : decode cc pc = .ok (.putfield index, 3)) {v : Value} (hn : narrow (ty0 k) v = v) (hfit : fits (ty0 k) v = true) (hkd : kd M a = some (.inl ci)) (M' : gM) (hk' : kd M' = kd M) (hz : sz M' = sz M) (ho : ∀ b, b ≠ a → iv M' b = iv M b ∧ rv M' b = rv M b ∧ jv M' b = jv M b) (hv : fv M' ci a k = v) (hvo : ∀ j, j ≠ k → fv M' ci a j = fv M ci a j)
    (kk : V l G X bc bs M' (pc + 3) lv rest) : V l G X bc bs M pc lv (v :: .ref a :: rest) := by
  obtain ⟨p, e, R, s, m, args, below, meth, c, Q, nl⟩ := X
  obtain ⟨hx, hb, hml, hnl, hown, hts, hK, hlk, hF, hL, htr⟩ := h
  obtain ⟨-, -, -, hname⟩ := hq
  intro g1 g2 H locs la hR hS hl
  obtain ⟨ha, cell, q1, q2, q3, q4⟩ := gOb hR hkd hc
  have hap := gApart hts hin ty0 hty hnm hK hc
  obtain ⟨hSl, hfc, kC, hkC, hkind⟩ := hK.1 ci _ hc
  obtain ⟨cf, kf, fi, f, hi, hsl⟩ := hSl k hk
  have hlay := hts _ (hin _ (u_in_lay hk))
  unfold u_lay at hlay
  rw [if_pos hfin] at hlay
  have hst := (u_facts hfc hkC (u_lays hts hin hk) hi).1
  have hcf : m.cls = cf := by
    obtain ⟨_, _, c', _, _, _, -, -, hf', -, -, -, hown2, -⟩ := Cond.laysFinal_spec hlay
    have e1 : c' = cf := by have := hi.symm.trans hf'; simp at this; exact this.1.symm
    rw [hdecl] at hown2
    rw [← e1]; exact Option.some.inj (hown.symm.trans hown2)
  have h6 := u_fits hfc hkC hkind (Or.inr hlay) hi (hty k hk) hn hfit
  refine W.putFinK hx hb hown (hts _ hlink) hi hst hcf hname (by rw [q2]; exact h6) q1 q3 (by rw [hsl]; exact k2_hasslot (q4 k hk)) rfl rfl d fun H1 e1 e2 e3 => ?_
  rw [hsl] at e1 ⊢
  exact kk g1 g2 H1 _ la (gPutOk hR hkd hc ha q2 q3 q4 hap hk e1 e2 e3 hk' hz ho hv hvo) (hS.put e2 e3 ha) hl
theorem sI_ho {k : Nat} {x : Int32} : ∀ b, b ≠ a → iv (sI M a k x) b = iv M b ∧ rv (sI M a k x) b = rv M b ∧ jv (sI M a k x) b = jv M b := fun _ hb => ⟨u2_ne hb, rfl, rfl⟩
theorem sR_ho {k : Nat} {x : Option Nat} : ∀ b, b ≠ a → iv (sR M a k x) b = iv M b ∧ rv (sR M a k x) b = rv M b ∧ jv (sR M a k x) b = jv M b := fun _ hb => ⟨rfl, u2_ne hb, rfl⟩
theorem sI_fv {ci k : Nat} {x : Int32} (hr : gIsR (gFty ci k) = false) : fv (sI M a k x) ci a k = .int x := by
  unfold fv
  rw [hr]
  show Value.int (u2 (iv M) a k x a k) = _
  rw [u2_at, if_pos rfl]
theorem sI_fvo {ci k : Nat} {x : Int32} : ∀ j, j ≠ k → fv (sI M a k x) ci a j = fv M ci a j := fun j hj => by
  unfold fv
  show (if _ then va_rf (rv M a j) else Value.int (u2 (iv M) a k x a j)) = _
  rw [u2_at, if_neg hj]
theorem sR_fv {ci k : Nat} {x : Option Nat} (hr : gIsR (gFty ci k) = true) : fv (sR M a k x) ci a k = va_rf x := by
  unfold fv
  rw [hr]
  show va_rf (u2 (rv M) a k x a k) = _
  rw [u2_at, if_pos rfl]
theorem sR_fvo {ci k : Nat} {x : Option Nat} : ∀ j, j ≠ k → fv (sR M a k x) ci a j = fv M ci a j := fun j hj => by
  unfold fv
  show (if _ then va_rf (u2 (rv M) a k x a j) else Value.int (iv M a j)) = _
  rw [u2_at, if_neg hj]
end ROWS3
section ROWS3B
variable {l : Launch} {G : gG} {X : gX} {cc : ByteArray} {nL : Nat} {own : String} {F L bc bs : Nat} {M : gM} {pc : Nat} {lv lv' : List (Nat × Value)} {rest : List Value} {a : Nat}
theorem vp_lt {i : Int32} {n : Nat} (h : vp_in i n) : ix i < n := Nat.not_le.mp fun q => h (Or.inr q)
theorem r_iaload (h : hX l G X cc nL own F L) {i : Int32} (d : decode cc pc = .ok (.iaload, 1)) (hi : inA M a 0 i) (kk : V l G X bc bs M (pc + 1) lv (.int (iv M a (ix i)) :: rest)) : V l G X bc bs M pc lv (.int i :: .ref a :: rest) := by
  obtain ⟨p, e, R, s, m, args, below, meth, c, Q, nl⟩ := X
  obtain ⟨hx, hb, hml, hnl, hown, hts, hK, hlk, hF, hL, htr⟩ := h
  intro g1 g2 H locs la hR hS hl
  obtain ⟨n, hkd, hin⟩ := hi
  obtain ⟨-, ht, hc⟩ := gAr hR hkd (by decide)
  exact W.iald (v := .int (iv M a (ix i))) hx hb hc ((hK.2.1 0 ht).1 n (fun j => .int (iv M a j))) (fun q => by cases q) (by show ¬ (i < 0 ∨ (arrV _ _ _).slots.size ≤ _); rw [arrV_size]; exact hin) (by show (arrV _ _ _).slots[_]? = _; exact arrV_read _ _ (vp_lt hin)) rfl rfl d (kk g1 g2 H locs la hR hS hl)
theorem r_baload (h : hX l G X cc nL own F L) {i : Int32} (d : decode cc pc = .ok (.baload, 1)) (hi : inA M a 1 i) (kk : V l G X bc bs M (pc + 1) lv (.int (iv M a (ix i)) :: rest)) : V l G X bc bs M pc lv (.int i :: .ref a :: rest) := by
  obtain ⟨p, e, R, s, m, args, below, meth, c, Q, nl⟩ := X
  obtain ⟨hx, hb, hml, hnl, hown, hts, hK, hlk, hF, hL, htr⟩ := h
  intro g1 g2 H locs la hR hS hl
  obtain ⟨n, hkd, hin⟩ := hi
  obtain ⟨-, ht, hc⟩ := gAr hR hkd (by decide)
  exact W.bald (v := .int (iv M a (ix i))) hx hb hc ((hK.2.1 1 ht).1 n (fun j => .int (iv M a j))) (fun q => by cases q) (by show ¬ (i < 0 ∨ (arrV _ _ _).slots.size ≤ _); rw [arrV_size]; exact hin) (by show (arrV _ _ _).slots[_]? = _; exact arrV_read _ _ (vp_lt hin)) rfl rfl d (kk g1 g2 H locs la hR hS hl)
theorem r_laload (h : hX l G X cc nL own F L) {i : Int32} (d : decode cc pc = .ok (.laload, 1)) (hi : inA M a 2 i) (kk : V l G X bc bs M (pc + 1) lv (.long (jv M a (ix i)) :: rest)) : V l G X bc bs M pc lv (.int i :: .ref a :: rest) := by
  obtain ⟨p, e, R, s, m, args, below, meth, c, Q, nl⟩ := X
  obtain ⟨hx, hb, hml, hnl, hown, hts, hK, hlk, hF, hL, htr⟩ := h
  intro g1 g2 H locs la hR hS hl
  obtain ⟨n, hkd, hin⟩ := hi
  obtain ⟨-, ht, hc⟩ := gAr hR hkd (by decide)
  exact W.lald (v := .long (jv M a (ix i))) hx hb hc ((hK.2.1 2 ht).1 n (fun j => .long (jv M a j))) (fun q => by cases q) (by show ¬ (i < 0 ∨ (arrV _ _ _).slots.size ≤ _); rw [arrV_size]; exact hin) (by show (arrV _ _ _).slots[_]? = _; exact arrV_read _ _ (vp_lt hin)) rfl rfl d (kk g1 g2 H locs la hR hS hl)
/-- an array of references (its number 3 or more) -/
theorem gAcR {t : Nat} (h : 3 ≤ t) (M : gM) (a n : Nat) : gAc M a t n = (n, .inr (.inr (.inr (.inr (rv M a))))) := by
  match t, h with
  | t + 3, _ => rfl
theorem gTyR {t : Nat} (h : 3 ≤ t) : (gTy t).isReference = true := by
  match t, h with
  | 3, _ => rfl
  | 4, _ => rfl
  | 5, _ => rfl
  | 6, _ => rfl
  | 7, _ => rfl
  | 8, _ => rfl
  | t + 9, _ => rfl
theorem r_aaload (h : hX l G X cc nL own F L) (t : Nat) (h3 : 3 ≤ t) (h10 : t ≠ 10) {i : Int32} (d : decode cc pc = .ok (.aaload, 1)) (hi : inA M a t i) {v : Value} (hv : va_rf (rv M a (ix i)) = v) (kk : V l G X bc bs M (pc + 1) lv (v :: rest)) : V l G X bc bs M pc lv (.int i :: .ref a :: rest) := by
  obtain ⟨p, e, R, s, m, args, below, meth, c, Q, nl⟩ := X
  obtain ⟨hx, hb, hml, hnl, hown, hts, hK, hlk, hF, hL, htr⟩ := h
  intro g1 g2 H locs la hR hS hl
  obtain ⟨n, hkd, hin⟩ := hi
  obtain ⟨-, ht, hc⟩ := gAr hR hkd h10
  rw [gAcR h3] at hc
  subst hv
  exact W.aald (v := va_rf (rv M a (ix i))) (ty := gTy t) hx hb hc ((hK.2.1 t ht).1 n (fun j => va_rf (rv M a j))) (gTyR h3) (fun q => by cases q) (by show ¬ (i < 0 ∨ (arrV _ _ _).slots.size ≤ _); rw [arrV_size]; exact hin) (by show (arrV _ _ _).slots[_]? = _; exact arrV_read _ _ (vp_lt hin)) rfl rfl d (kk g1 g2 H locs la hR hS hl)
theorem r_alen (h : hX l G X cc nL own F L) (t n : Nat) (h10 : t ≠ 10) (d : decode cc pc = .ok (.arraylength, 1)) (hkd : kd M a = some (.inr (t, n))) (kk : V l G X bc bs M (pc + 1) lv (.int (nI n) :: rest)) : V l G X bc bs M pc lv (.ref a :: rest) := by
  obtain ⟨p, e, R, s, m, args, below, meth, c, Q, nl⟩ := X
  obtain ⟨hx, hb, hml, hnl, hown, hts, hK, hlk, hF, hL, htr⟩ := h
  intro g1 g2 H locs la hR hS hl
  obtain ⟨-, ht, hc⟩ := gAr hR hkd h10
  have k := kk g1 g2 H locs la hR hS hl
  have key : ∀ z : Nat → Value, vp_cell (gGA G t) (gAc M a t n) = arrV (gGA G t) n z → W p l e R s m args below meth c H locs (R.cells - bc) (R.slots - bs) Q (F0 m pc la (.ref a :: rest)) := fun z hz =>
    W.alen (n := nI n) hx hb hc (by rw [hz]; exact (hK.2.1 t ht).1 n z) (by rw [hz, arrV_size] <;> rfl) rfl rfl d k
  match t with
  | 0 => exact key (fun j => .int (iv M a j)) rfl
  | 1 => exact key (fun j => .int (iv M a j)) rfl
  | 2 => exact key (fun j => .long (jv M a j)) rfl
  | t + 3 => exact key (fun j => va_rf (rv M a j)) rfl
theorem gAt_arr {M' : gM} {H1 : Heap} {t n : Nat} (hkd : kd M' a = some (.inr (t, n))) (ha : gN0 G ≤ a) (ht : t < 10) (h : H1[a]? = some (vp_cell (gGA G t) (gAc M' a t n))) : gAt G M' a H1 := by
  unfold gAt
  rw [hkd]
  dsimp only
  rw [if_neg (Nat.ne_of_lt ht)]
  exact ⟨ha, ht, h⟩
theorem r_iastore (h : hX l G X cc nL own F L) {i x : Int32} (d : decode cc pc = .ok (.iastore, 1)) (hi : inA M a 0 i) (kk : V l G X bc bs (sI M a (ix i) x) (pc + 1) lv rest) : V l G X bc bs M pc lv (.int x :: .int i :: .ref a :: rest) := by
  obtain ⟨p, e, R, s, m, args, below, meth, c, Q, nl⟩ := X
  obtain ⟨hx, hb, hml, hnl, hown, hts, hK, hlk, hF, hL, htr⟩ := h
  intro g1 g2 H locs la hR hS hl
  obtain ⟨n, hkd, hin⟩ := hi
  obtain ⟨ha, ht, hc⟩ := gAr hR hkd (by decide)
  refine W.iast hx hb hc ((hK.2.1 0 ht).1 n (fun j => .int (iv M a j))) (fun q => by cases q) (by show ¬ (i < 0 ∨ (arrV _ _ _).slots.size ≤ _); rw [arrV_size]; exact hin) rfl rfl d fun H1 e1 e2 e3 => ?_
  refine kk g1 g2 H1 _ la (hR.put rfl rfl e2 e3 sI_ho (gAt_arr hkd ha ht ?_)) (hS.put e2 e3 ha) hl
  rw [e1]
  rw [show vp_cell (gGA G 0) (gAc M a 0 n) = arrV (gGA G 0) n (fun j => .int (iv M a j)) from rfl, show vp_cell (gGA G 0) (gAc (sI M a (ix i) x) a 0 n) = arrV (gGA G 0) n (fun j => .int (u2 (iv M) a (ix i) x a j)) from rfl, arrV_store]
  congr 2
  funext j
  show updV _ _ _ j = Value.int (u2 (iv M) a (ix i) x a j)
  rw [u2_at]
  unfold updV
  by_cases hj : j = ix i
  · rw [if_pos (show j = i.toNatClampNeg from hj), if_pos hj]
  · rw [if_neg (show ¬ j = i.toNatClampNeg from hj), if_neg hj]
theorem r_bastore (h : hX l G X cc nL own F L) {i x : Int32} (d : decode cc pc = .ok (.bastore, 1)) (hi : inA M a 1 i) (kk : V l G X bc bs (sI M a (ix i) x.toInt8.toInt32) (pc + 1) lv rest) : V l G X bc bs M pc lv (.int x :: .int i :: .ref a :: rest) := by
  obtain ⟨p, e, R, s, m, args, below, meth, c, Q, nl⟩ := X
  obtain ⟨hx, hb, hml, hnl, hown, hts, hK, hlk, hF, hL, htr⟩ := h
  intro g1 g2 H locs la hR hS hl
  obtain ⟨n, hkd, hin⟩ := hi
  obtain ⟨ha, ht, hc⟩ := gAr hR hkd (by decide)
  refine W.bast hx hb hc ((hK.2.1 1 ht).1 n (fun j => .int (iv M a j))) (fun q => by cases q) (by show ¬ (i < 0 ∨ (arrV _ _ _).slots.size ≤ _); rw [arrV_size]; exact hin) rfl rfl d fun H1 e1 e2 e3 => ?_
  refine kk g1 g2 H1 _ la (hR.put rfl rfl e2 e3 sI_ho (gAt_arr hkd ha ht ?_)) (hS.put e2 e3 ha) hl
  rw [e1]
  rw [show vp_cell (gGA G 1) (gAc M a 1 n) = arrV (gGA G 1) n (fun j => .int (iv M a j)) from rfl, show vp_cell (gGA G 1) (gAc (sI M a (ix i) x.toInt8.toInt32) a 1 n) = arrV (gGA G 1) n (fun j => .int (u2 (iv M) a (ix i) x.toInt8.toInt32 a j)) from rfl, arrV_store]
  congr 2
  funext j
  show updV (fun j => Value.int (iv M a j)) i.toNatClampNeg (Value.int x.toInt8.toInt32) j = Value.int (u2 (iv M) a (ix i) x.toInt8.toInt32 a j)
  rw [u2_at]
  unfold updV
  by_cases hj : j = ix i
  · rw [if_pos (show j = i.toNatClampNeg from hj), if_pos hj]
  · rw [if_neg (show ¬ j = i.toNatClampNeg from hj), if_neg hj]
theorem r_lastore (h : hX l G X cc nL own F L) {i : Int32} {x : Int64} (d : decode cc pc = .ok (.lastore, 1)) (hi : inA M a 2 i) (kk : V l G X bc bs (sJ M a (ix i) x) (pc + 1) lv rest) : V l G X bc bs M pc lv (.long x :: .int i :: .ref a :: rest) := by
  obtain ⟨p, e, R, s, m, args, below, meth, c, Q, nl⟩ := X
  obtain ⟨hx, hb, hml, hnl, hown, hts, hK, hlk, hF, hL, htr⟩ := h
  intro g1 g2 H locs la hR hS hl
  obtain ⟨n, hkd, hin⟩ := hi
  obtain ⟨ha, ht, hc⟩ := gAr hR hkd (by decide)
  refine W.last hx hb hc ((hK.2.1 2 ht).1 n (fun j => .long (jv M a j))) (fun q => by cases q) (by show ¬ (i < 0 ∨ (arrV _ _ _).slots.size ≤ _); rw [arrV_size]; exact hin) rfl rfl d fun H1 e1 e2 e3 => ?_
  refine kk g1 g2 H1 _ la (hR.put rfl rfl e2 e3 (fun _ hb => ⟨rfl, rfl, u2_ne hb⟩) (gAt_arr hkd ha ht ?_)) (hS.put e2 e3 ha) hl
  rw [e1]
  rw [show vp_cell (gGA G 2) (gAc M a 2 n) = arrV (gGA G 2) n (fun j => .long (jv M a j)) from rfl, show vp_cell (gGA G 2) (gAc (sJ M a (ix i) x) a 2 n) = arrV (gGA G 2) n (fun j => .long (u2 (jv M) a (ix i) x a j)) from rfl, arrV_store]
  congr 2
  funext j
  show updV _ _ _ j = Value.long (u2 (jv M) a (ix i) x a j)
  rw [u2_at]
  unfold updV
  by_cases hj : j = ix i
  · rw [if_pos (show j = i.toNatClampNeg from hj), if_pos hj]
  · rw [if_neg (show ¬ j = i.toNatClampNeg from hj), if_neg hj]
/-- an object of class ci is stored into an array of type t, of the class C1 -/
theorem r_aastore (h : hX l G X cc nL own F L) (t ci : Nat) (h3 : 3 ≤ t) (h10 : t ≠ 10) {C1 : String} {q : vw_C} (hc1 : gCl[ci]? = some q) (ht1 : gTy t = .object C1) (hca : C1 = q.1 ∨ (q.1, C1) ∈ gCa) {i : Int32} {b : Nat} (d : decode cc pc = .ok (.aastore, 1)) (hi : inA M a t i) (hkb : kd M b = some (.inl ci)) (kk : V l G X bc bs (sR M a (ix i) (some b)) (pc + 1) lv rest) : V l G X bc bs M pc lv (.ref b :: .int i :: .ref a :: rest) := by
  obtain ⟨p, e, R, s, m, args, below, meth, c, Q, nl⟩ := X
  obtain ⟨hx, hb, hml, hnl, hown, hts, hK, hlk, hF, hL, htr⟩ := h
  intro g1 g2 H locs la hR hS hl
  obtain ⟨n, hkd, hin⟩ := hi
  obtain ⟨ha, ht, hc⟩ := gAr hR hkd h10
  have h0 : ¬ i < 0 := fun q => hin (Or.inl q)
  obtain ⟨-, cellV, w1, w2, w3, -⟩ := gOb hR hkb hc1
  obtain ⟨hS1, hfc, kC, hkC, hkind⟩ := hK.1 ci _ hc1
  have hRA := (hK.2.1 t ht).2
  have hAr := (hK.2.1 t ht).1
  rw [ht1] at hRA hAr
  obtain ⟨kA, comp, k1, k2, k3, -⟩ := hRA
  have hasg : s.vm.assignable cellV.cls comp = true := by
    rw [w2]
    rcases hca with e9 | e9
    · rw [e9] at k3
      cases k3.symm.trans hfc
      exact va_assign ⟨hfc, kC, hkC, hkind⟩
    · obtain ⟨c3, c4, f1, f2, f3⟩ := Cond.castable_spec (va_Nw.use (A := args) rfl (hK.2.2.2.2.2.1 _ e9))
      cases f1.symm.trans hfc
      cases f2.symm.trans k3
      exact f3
  obtain ⟨kcomp, hkcomp, -⟩ := Vm.findClass_spec k3
  rw [gAcR h3] at hc
  refine W.aast hx hb hc (fun q h => by cases h) (fun h => by cases h) k1 k2 rfl hkcomp ⟨h0, by show _ < (arrV _ _ _).slots.size; rw [arrV_size]; exact vp_lt hin⟩ w1 (fun q h => by rw [w3] at h; cases h) (by rw [w2]; exact hkC) hasg rfl rfl d fun H1 e1 e2 e3 => ?_
  refine kk g1 g2 H1 _ la (hR.put rfl rfl e2 e3 sR_ho (gAt_arr hkd ha ht ?_)) (hS.put e2 e3 ha) hl
  rw [e1, gAcR h3]
  rw [vp_cell_q, vp_cell_q, arrV_store]
  congr 2
  funext j
  show updV _ _ _ j = va_rf (u2 (rv M) a (ix i) (some b) a j)
  rw [u2_at]
  unfold updV
  by_cases hj : j = ix i
  · rw [if_pos (show j = i.toNatClampNeg from hj), if_pos hj]; rfl
  · rw [if_neg (show ¬ j = i.toNatClampNeg from hj), if_neg hj]
/-- a text is stored into an array of texts -/
theorem r_aastoreS (h : hX l G X cc nL own F L) {i : Int32} {b k : Nat} (d : decode cc pc = .ok (.aastore, 1)) (hi : inA M a 3 i) (hkb : kd M b = some (.inr (10, k))) (kk : V l G X bc bs (sR M a (ix i) (some b)) (pc + 1) lv rest) : V l G X bc bs M pc lv (.ref b :: .int i :: .ref a :: rest) := by
  obtain ⟨p, e, R, s, m, args, below, meth, c, Q, nl⟩ := X
  obtain ⟨hx, hb, hml, hnl, hown, hts, hK, hlk, hF, hL, htr⟩ := h
  intro g1 g2 H locs la hR hS hl
  obtain ⟨n, hkd, hin⟩ := hi
  obtain ⟨ha, ht, hc⟩ := gAr hR hkd (by decide)
  have h0 : ¬ i < 0 := fun q => hin (Or.inl q)
  have hbt := hR.2.2.1 b
  unfold gAt at hbt
  rw [hkb] at hbt
  obtain ⟨eb, hsn⟩ := hbt
  obtain ⟨cellV, w1, w2, w3⟩ := vk_recv hK.2.2.2.2.2.2.2.2.2.1 hsn hS
  rw [← eb] at w1
  obtain ⟨kA, comp, k1, k2, k3, -⟩ := (hK.2.1 3 ht).2
  cases k3.symm.trans w3
  obtain ⟨kcomp, hkcomp, -⟩ := Vm.findClass_spec k3
  refine W.aast hx hb hc (fun q h => by cases h) (fun h => by cases h) k1 k2 rfl hkcomp ⟨h0, by show _ < (arrV _ _ _).slots.size; rw [arrV_size]; exact vp_lt hin⟩ w1 (fun q h => by rw [h] at w2; cases w2) hkcomp (va_asg _ _) rfl rfl d fun H1 e1 e2 e3 => ?_
  refine kk g1 g2 H1 _ la (hR.put rfl rfl e2 e3 sR_ho (gAt_arr hkd ha ht ?_)) (hS.put e2 e3 ha) hl
  rw [e1]
  rw [show vp_cell (gGA G 3) (gAc M a 3 n) = arrV (gGA G 3) n (fun j => va_rf (rv M a j)) from rfl, show vp_cell (gGA G 3) (gAc (sR M a (ix i) (some b)) a 3 n) = arrV (gGA G 3) n (fun j => va_rf (u2 (rv M) a (ix i) (some b) a j)) from rfl, arrV_store]
  congr 2
  funext j
  show updV _ _ _ j = va_rf (u2 (rv M) a (ix i) (some b) a j)
  rw [u2_at]
  unfold updV
  by_cases hj : j = ix i
  · rw [if_pos (show j = i.toNatClampNeg from hj), if_pos hj]; rfl
  · rw [if_neg (show ¬ j = i.toNatClampNeg from hj), if_neg hj]
end ROWS3B
