/-! CORE 2: rows over V: constants, locals, stack, arithmetic, branches -/
section ROWS2
variable {l : Launch} {G : gG} {X : gX} {cc : ByteArray} {nL : Nat} {own : String} {F L bc bs : Nat} {M : gM} {pc : Nat} {lv lv' : List (Nat × Value)} {rest : List Value}
theorem r_iconst (h : hX l G X cc nL own F L) {i : Int} {v : Int32} (d : decode cc pc = .ok (.iconst i, 1)) (hv : Int32.ofInt i = v) (kk : V l G X bc bs M (pc + 1) lv (.int v :: rest)) : V l G X bc bs M pc lv rest := by
  obtain ⟨p, e, R, s, m, args, below, meth, c, Q, n⟩ := X
  obtain ⟨hx, hb, hml, hn, hown, hts, hK, hlk, hF, hL, htr⟩ := h
  subst hn
  exact fun h1 h2 H locs la hR hS hl => lv_iconst hx hb d hv (kk h1 h2 H locs la hR hS hl)
theorem r_bipush (h : hX l G X cc nL own F L) {i : Int} {v : Int32} (d : decode cc pc = .ok (.bipush i, 2)) (hv : (Int8.ofInt i).toInt32 = v) (kk : V l G X bc bs M (pc + 2) lv (.int v :: rest)) : V l G X bc bs M pc lv rest := by
  obtain ⟨p, e, R, s, m, args, below, meth, c, Q, n⟩ := X
  obtain ⟨hx, hb, hml, hn, hown, hts, hK, hlk, hF, hL, htr⟩ := h
  subst hn
  exact fun h1 h2 H locs la hR hS hl => lv_bipush hx hb d hv (kk h1 h2 H locs la hR hS hl)
theorem r_sipush (h : hX l G X cc nL own F L) {i : Int} {v : Int32} (d : decode cc pc = .ok (.sipush i, 3)) (hv : (Int16.ofInt i).toInt32 = v) (kk : V l G X bc bs M (pc + 3) lv (.int v :: rest)) : V l G X bc bs M pc lv rest := by
  obtain ⟨p, e, R, s, m, args, below, meth, c, Q, n⟩ := X
  obtain ⟨hx, hb, hml, hn, hown, hts, hK, hlk, hF, hL, htr⟩ := h
  subst hn
  exact fun h1 h2 H locs la hR hS hl => lv_sipush hx hb d hv (kk h1 h2 H locs la hR hS hl)
theorem r_lconst (h : hX l G X cc nL own F L) {i : Fin 2} {v : Int64} (d : decode cc pc = .ok (.lconst i, 1)) (hv : Int64.ofNat (i : Nat) = v) (kk : V l G X bc bs M (pc + 1) lv (.long v :: rest)) : V l G X bc bs M pc lv rest := by
  obtain ⟨p, e, R, s, m, args, below, meth, c, Q, n⟩ := X
  obtain ⟨hx, hb, hml, hn, hown, hts, hK, hlk, hF, hL, htr⟩ := h
  subst hn
  exact fun h1 h2 H locs la hR hS hl => lv_lconst hx hb d hv (kk h1 h2 H locs la hR hS hl)
theorem r_ldc (h : hX l G X cc nL own F L) {i : Nat} {v : Int32} (d : decode cc pc = .ok (.ldc i, 2)) (hc : Cond.constant own i v ∈ lw_all) (kk : V l G X bc bs M (pc + 2) lv (.int v :: rest)) : V l G X bc bs M pc lv rest := by
  obtain ⟨p, e, R, s, m, args, below, meth, c, Q, n⟩ := X
  obtain ⟨hx, hb, hml, hn, hown, hts, hK, hlk, hF, hL, htr⟩ := h
  subst hn
  exact fun h1 h2 H locs la hR hS hl => lv_ldc hx hb hown (hts _ hc) d (kk h1 h2 H locs la hR hS hl)
theorem r_ldcw (h : hX l G X cc nL own F L) {i : Nat} {v : Int32} (d : decode cc pc = .ok (.ldc_w i, 3)) (hc : Cond.constant own i v ∈ lw_all) (kk : V l G X bc bs M (pc + 3) lv (.int v :: rest)) : V l G X bc bs M pc lv rest := by
  obtain ⟨p, e, R, s, m, args, below, meth, c, Q, n⟩ := X
  obtain ⟨hx, hb, hml, hn, hown, hts, hK, hlk, hF, hL, htr⟩ := h
  subst hn
  exact fun h1 h2 H locs la hR hS hl => lv_ldcw hx hb hown (hts _ hc) d (kk h1 h2 H locs la hR hS hl)
theorem r_aconst_null (h : hX l G X cc nL own F L)  (d : decode cc pc = .ok (.aconst_null, 1)) (kk : V l G X bc bs M (pc + 1) lv (.null :: rest)) : V l G X bc bs M pc lv rest := by
  obtain ⟨p, e, R, s, m, args, below, meth, c, Q, n⟩ := X
  obtain ⟨hx, hb, hml, hn, hown, hts, hK, hlk, hF, hL, htr⟩ := h
  subst hn
  exact fun h1 h2 H locs la hR hS hl => lv_null hx hb d (kk h1 h2 H locs la hR hS hl)
theorem r_iload_n (h : hX l G X cc nL own F L) {k : Fin 4} {i : Nat} {x : Int32} (q : Nat) (d : decode cc pc = .ok (.iload_n k, 1)) (hi : (k : Nat) = i) (hq : lv[q]? = some (i, .int x)) (kk : V l G X bc bs M (pc + 1) lv (.int x :: rest)) : V l G X bc bs M pc lv rest := by
  obtain ⟨p, e, R, s, m, args, below, meth, c, Q, n⟩ := X
  obtain ⟨hx, hb, hml, hn, hown, hts, hK, hlk, hF, hL, htr⟩ := h
  subst hn
  exact fun h1 h2 H locs la hR hS hl => lv_iload_n hx hb d hi (lv_at hl q hq) (kk h1 h2 H locs la hR hS hl)
theorem r_iload (h : hX l G X cc nL own F L) {i : Nat} {x : Int32} (q : Nat) (d : decode cc pc = .ok (.iload i, 2)) (hq : lv[q]? = some (i, .int x)) (kk : V l G X bc bs M (pc + 2) lv (.int x :: rest)) : V l G X bc bs M pc lv rest := by
  obtain ⟨p, e, R, s, m, args, below, meth, c, Q, n⟩ := X
  obtain ⟨hx, hb, hml, hn, hown, hts, hK, hlk, hF, hL, htr⟩ := h
  subst hn
  exact fun h1 h2 H locs la hR hS hl => lv_iload hx hb d (lv_at hl q hq) (kk h1 h2 H locs la hR hS hl)
theorem r_istore_n (h : hX l G X cc nL own F L) {k : Fin 4} {i : Nat} {x : Int32} (d : decode cc pc = .ok (.istore_n k, 1)) (hi : (k : Nat) = i) (hn : i < nL) (hf : (i, Value.int x) :: lv.filter (fun q => !(q.1 == i) && !(q.1 + 1 == i && q.2.category == 2)) = lv') (kk : V l G X bc bs M (pc + 1) lv' rest) : V l G X bc bs M pc lv (.int x :: rest) := by
  obtain ⟨p, e, R, s, m, args, below, meth, c, Q, n⟩ := X
  obtain ⟨hx, hb, hml, hn, hown, hts, hK, hlk, hF, hL, htr⟩ := h
  subst hn
  exact fun h1 h2 H locs la hR hS hl => lv_istore_n hx hb d hi hl hn hf (fun la hl => kk h1 h2 H locs la hR hS hl)
theorem r_istore (h : hX l G X cc nL own F L) {i : Nat} {x : Int32} (d : decode cc pc = .ok (.istore i, 2)) (hn : i < nL) (hf : (i, Value.int x) :: lv.filter (fun q => !(q.1 == i) && !(q.1 + 1 == i && q.2.category == 2)) = lv') (kk : V l G X bc bs M (pc + 2) lv' rest) : V l G X bc bs M pc lv (.int x :: rest) := by
  obtain ⟨p, e, R, s, m, args, below, meth, c, Q, n⟩ := X
  obtain ⟨hx, hb, hml, hn, hown, hts, hK, hlk, hF, hL, htr⟩ := h
  subst hn
  exact fun h1 h2 H locs la hR hS hl => lv_istore hx hb d hl hn hf (fun la hl => kk h1 h2 H locs la hR hS hl)
theorem r_aload_n (h : hX l G X cc nL own F L) {k : Fin 4} {i : Nat} {x : Nat} (q : Nat) (d : decode cc pc = .ok (.aload_n k, 1)) (hi : (k : Nat) = i) (hq : lv[q]? = some (i, .ref x)) (kk : V l G X bc bs M (pc + 1) lv (.ref x :: rest)) : V l G X bc bs M pc lv rest := by
  obtain ⟨p, e, R, s, m, args, below, meth, c, Q, n⟩ := X
  obtain ⟨hx, hb, hml, hn, hown, hts, hK, hlk, hF, hL, htr⟩ := h
  subst hn
  exact fun h1 h2 H locs la hR hS hl => lv_aload_n hx hb d hi (lv_at hl q hq) (kk h1 h2 H locs la hR hS hl)
theorem r_aload (h : hX l G X cc nL own F L) {i : Nat} {x : Nat} (q : Nat) (d : decode cc pc = .ok (.aload i, 2)) (hq : lv[q]? = some (i, .ref x)) (kk : V l G X bc bs M (pc + 2) lv (.ref x :: rest)) : V l G X bc bs M pc lv rest := by
  obtain ⟨p, e, R, s, m, args, below, meth, c, Q, n⟩ := X
  obtain ⟨hx, hb, hml, hn, hown, hts, hK, hlk, hF, hL, htr⟩ := h
  subst hn
  exact fun h1 h2 H locs la hR hS hl => lv_aload hx hb d (lv_at hl q hq) (kk h1 h2 H locs la hR hS hl)
theorem r_astore_n (h : hX l G X cc nL own F L) {k : Fin 4} {i : Nat} {x : Nat} (d : decode cc pc = .ok (.astore_n k, 1)) (hi : (k : Nat) = i) (hn : i < nL) (hf : (i, Value.ref x) :: lv.filter (fun q => !(q.1 == i) && !(q.1 + 1 == i && q.2.category == 2)) = lv') (kk : V l G X bc bs M (pc + 1) lv' rest) : V l G X bc bs M pc lv (.ref x :: rest) := by
  obtain ⟨p, e, R, s, m, args, below, meth, c, Q, n⟩ := X
  obtain ⟨hx, hb, hml, hn, hown, hts, hK, hlk, hF, hL, htr⟩ := h
  subst hn
  exact fun h1 h2 H locs la hR hS hl => lv_astore_n hx hb d hi hl hn hf (fun la hl => kk h1 h2 H locs la hR hS hl)
theorem r_astore (h : hX l G X cc nL own F L) {i : Nat} {x : Nat} (d : decode cc pc = .ok (.astore i, 2)) (hn : i < nL) (hf : (i, Value.ref x) :: lv.filter (fun q => !(q.1 == i) && !(q.1 + 1 == i && q.2.category == 2)) = lv') (kk : V l G X bc bs M (pc + 2) lv' rest) : V l G X bc bs M pc lv (.ref x :: rest) := by
  obtain ⟨p, e, R, s, m, args, below, meth, c, Q, n⟩ := X
  obtain ⟨hx, hb, hml, hn, hown, hts, hK, hlk, hF, hL, htr⟩ := h
  subst hn
  exact fun h1 h2 H locs la hR hS hl => lv_astore hx hb d hl hn hf (fun la hl => kk h1 h2 H locs la hR hS hl)
theorem r_aload_nN (h : hX l G X cc nL own F L) {k : Fin 4} {i : Nat} (q : Nat) (d : decode cc pc = .ok (.aload_n k, 1)) (hi : (k : Nat) = i) (hq : lv[q]? = some (i, .null)) (kk : V l G X bc bs M (pc + 1) lv (.null :: rest)) : V l G X bc bs M pc lv rest := by
  obtain ⟨p, e, R, s, m, args, below, meth, c, Q, n⟩ := X
  obtain ⟨hx, hb, hml, hn, hown, hts, hK, hlk, hF, hL, htr⟩ := h
  subst hn
  exact fun h1 h2 H locs la hR hS hl => lv_aload_nN hx hb d hi (lv_at hl q hq) (kk h1 h2 H locs la hR hS hl)
theorem r_aloadN (h : hX l G X cc nL own F L) {i : Nat} (q : Nat) (d : decode cc pc = .ok (.aload i, 2)) (hq : lv[q]? = some (i, .null)) (kk : V l G X bc bs M (pc + 2) lv (.null :: rest)) : V l G X bc bs M pc lv rest := by
  obtain ⟨p, e, R, s, m, args, below, meth, c, Q, n⟩ := X
  obtain ⟨hx, hb, hml, hn, hown, hts, hK, hlk, hF, hL, htr⟩ := h
  subst hn
  exact fun h1 h2 H locs la hR hS hl => lv_aloadN hx hb d (lv_at hl q hq) (kk h1 h2 H locs la hR hS hl)
theorem r_astore_nN (h : hX l G X cc nL own F L) {k : Fin 4} {i : Nat} (d : decode cc pc = .ok (.astore_n k, 1)) (hi : (k : Nat) = i) (hn : i < nL) (hf : (i, Value.null) :: lv.filter (fun q => !(q.1 == i) && !(q.1 + 1 == i && q.2.category == 2)) = lv') (kk : V l G X bc bs M (pc + 1) lv' rest) : V l G X bc bs M pc lv (.null :: rest) := by
  obtain ⟨p, e, R, s, m, args, below, meth, c, Q, n⟩ := X
  obtain ⟨hx, hb, hml, hn, hown, hts, hK, hlk, hF, hL, htr⟩ := h
  subst hn
  exact fun h1 h2 H locs la hR hS hl => lv_astore_nN hx hb d hi hl hn hf (fun la hl => kk h1 h2 H locs la hR hS hl)
theorem r_astoreN (h : hX l G X cc nL own F L) {i : Nat} (d : decode cc pc = .ok (.astore i, 2)) (hn : i < nL) (hf : (i, Value.null) :: lv.filter (fun q => !(q.1 == i) && !(q.1 + 1 == i && q.2.category == 2)) = lv') (kk : V l G X bc bs M (pc + 2) lv' rest) : V l G X bc bs M pc lv (.null :: rest) := by
  obtain ⟨p, e, R, s, m, args, below, meth, c, Q, n⟩ := X
  obtain ⟨hx, hb, hml, hn, hown, hts, hK, hlk, hF, hL, htr⟩ := h
  subst hn
  exact fun h1 h2 H locs la hR hS hl => lv_astoreN hx hb d hl hn hf (fun la hl => kk h1 h2 H locs la hR hS hl)
theorem r_iinc (h : hX l G X cc nL own F L) {i : Nat} {k : Int} {x v : Int32} (q : Nat) (d : decode cc pc = .ok (.iinc i k, 3)) (hq : lv[q]? = some (i, .int x)) (hv : x + Int32.ofInt k = v) (hn : i < nL) (hf : (i, Value.int v) :: lv.filter (fun q => !(q.1 == i) && !(q.1 + 1 == i && q.2.category == 2)) = lv') (kk : V l G X bc bs M (pc + 3) lv' rest) : V l G X bc bs M pc lv rest := by
  obtain ⟨p, e, R, s, m, args, below, meth, c, Q, n⟩ := X
  obtain ⟨hx, hb, hml, hn, hown, hts, hK, hlk, hF, hL, htr⟩ := h
  subst hn
  exact fun h1 h2 H locs la hR hS hl => lv_iinc hx hb d hl hq hv hn hf (fun la hl => kk h1 h2 H locs la hR hS hl)
theorem r_iadd (h : hX l G X cc nL own F L) {x y : Int32} (d : decode cc pc = .ok (.iadd, 1)) (kk : V l G X bc bs M (pc + 1) lv (.int (x + y) :: rest)) : V l G X bc bs M pc lv (.int y :: .int x :: rest) := by
  obtain ⟨p, e, R, s, m, args, below, meth, c, Q, n⟩ := X
  obtain ⟨hx, hb, hml, hn, hown, hts, hK, hlk, hF, hL, htr⟩ := h
  subst hn
  exact fun h1 h2 H locs la hR hS hl => lv_iadd hx hb d (kk h1 h2 H locs la hR hS hl)
theorem r_isub (h : hX l G X cc nL own F L) {x y : Int32} (d : decode cc pc = .ok (.isub, 1)) (kk : V l G X bc bs M (pc + 1) lv (.int (x - y) :: rest)) : V l G X bc bs M pc lv (.int y :: .int x :: rest) := by
  obtain ⟨p, e, R, s, m, args, below, meth, c, Q, n⟩ := X
  obtain ⟨hx, hb, hml, hn, hown, hts, hK, hlk, hF, hL, htr⟩ := h
  subst hn
  exact fun h1 h2 H locs la hR hS hl => lv_isub hx hb d (kk h1 h2 H locs la hR hS hl)
theorem r_imul (h : hX l G X cc nL own F L) {x y : Int32} (d : decode cc pc = .ok (.imul, 1)) (kk : V l G X bc bs M (pc + 1) lv (.int (x * y) :: rest)) : V l G X bc bs M pc lv (.int y :: .int x :: rest) := by
  obtain ⟨p, e, R, s, m, args, below, meth, c, Q, n⟩ := X
  obtain ⟨hx, hb, hml, hn, hown, hts, hK, hlk, hF, hL, htr⟩ := h
  subst hn
  exact fun h1 h2 H locs la hR hS hl => lv_imul hx hb d (kk h1 h2 H locs la hR hS hl)
theorem r_iand (h : hX l G X cc nL own F L) {x y : Int32} (d : decode cc pc = .ok (.iand, 1)) (kk : V l G X bc bs M (pc + 1) lv (.int (x &&& y) :: rest)) : V l G X bc bs M pc lv (.int y :: .int x :: rest) := by
  obtain ⟨p, e, R, s, m, args, below, meth, c, Q, n⟩ := X
  obtain ⟨hx, hb, hml, hn, hown, hts, hK, hlk, hF, hL, htr⟩ := h
  subst hn
  exact fun h1 h2 H locs la hR hS hl => lv_iand hx hb d (kk h1 h2 H locs la hR hS hl)
theorem r_ior (h : hX l G X cc nL own F L) {x y : Int32} (d : decode cc pc = .ok (.ior, 1)) (kk : V l G X bc bs M (pc + 1) lv (.int (x ||| y) :: rest)) : V l G X bc bs M pc lv (.int y :: .int x :: rest) := by
  obtain ⟨p, e, R, s, m, args, below, meth, c, Q, n⟩ := X
  obtain ⟨hx, hb, hml, hn, hown, hts, hK, hlk, hF, hL, htr⟩ := h
  subst hn
  exact fun h1 h2 H locs la hR hS hl => lv_ior hx hb d (kk h1 h2 H locs la hR hS hl)
theorem r_ixor (h : hX l G X cc nL own F L) {x y : Int32} (d : decode cc pc = .ok (.ixor, 1)) (kk : V l G X bc bs M (pc + 1) lv (.int (x ^^^ y) :: rest)) : V l G X bc bs M pc lv (.int y :: .int x :: rest) := by
  obtain ⟨p, e, R, s, m, args, below, meth, c, Q, n⟩ := X
  obtain ⟨hx, hb, hml, hn, hown, hts, hK, hlk, hF, hL, htr⟩ := h
  subst hn
  exact fun h1 h2 H locs la hR hS hl => lv_ixor hx hb d (kk h1 h2 H locs la hR hS hl)
theorem r_ishl (h : hX l G X cc nL own F L) {x y : Int32} (d : decode cc pc = .ok (.ishl, 1)) (kk : V l G X bc bs M (pc + 1) lv (.int (x <<< (y &&& 31)) :: rest)) : V l G X bc bs M pc lv (.int y :: .int x :: rest) := by
  obtain ⟨p, e, R, s, m, args, below, meth, c, Q, n⟩ := X
  obtain ⟨hx, hb, hml, hn, hown, hts, hK, hlk, hF, hL, htr⟩ := h
  subst hn
  exact fun h1 h2 H locs la hR hS hl => lv_ishl hx hb d (kk h1 h2 H locs la hR hS hl)
theorem r_ishr (h : hX l G X cc nL own F L) {x y : Int32} (d : decode cc pc = .ok (.ishr, 1)) (kk : V l G X bc bs M (pc + 1) lv (.int (x >>> (y &&& 31)) :: rest)) : V l G X bc bs M pc lv (.int y :: .int x :: rest) := by
  obtain ⟨p, e, R, s, m, args, below, meth, c, Q, n⟩ := X
  obtain ⟨hx, hb, hml, hn, hown, hts, hK, hlk, hF, hL, htr⟩ := h
  subst hn
  exact fun h1 h2 H locs la hR hS hl => lv_ishr hx hb d (kk h1 h2 H locs la hR hS hl)
theorem r_idiv (h : hX l G X cc nL own F L) {x y : Int32} (d : decode cc pc = .ok (.idiv, 1)) (hy : ¬ y = 0) (kk : V l G X bc bs M (pc + 1) lv (.int (x / y) :: rest)) : V l G X bc bs M pc lv (.int y :: .int x :: rest) := by
  obtain ⟨p, e, R, s, m, args, below, meth, c, Q, n⟩ := X
  obtain ⟨hx, hb, hml, hn, hown, hts, hK, hlk, hF, hL, htr⟩ := h
  subst hn
  exact fun h1 h2 H locs la hR hS hl => lv_idiv hx hb d hy (kk h1 h2 H locs la hR hS hl)
theorem r_irem (h : hX l G X cc nL own F L) {x y : Int32} (d : decode cc pc = .ok (.irem, 1)) (hy : ¬ y = 0) (kk : V l G X bc bs M (pc + 1) lv (.int (x - x / y * y) :: rest)) : V l G X bc bs M pc lv (.int y :: .int x :: rest) := by
  obtain ⟨p, e, R, s, m, args, below, meth, c, Q, n⟩ := X
  obtain ⟨hx, hb, hml, hn, hown, hts, hK, hlk, hF, hL, htr⟩ := h
  subst hn
  exact fun h1 h2 H locs la hR hS hl => lv_irem hx hb d hy (kk h1 h2 H locs la hR hS hl)
theorem r_iushr (h : hX l G X cc nL own F L) {x y : Int32} (d : decode cc pc = .ok (.iushr, 1)) (kk : V l G X bc bs M (pc + 1) lv (.int (x.toUInt32 >>> (y.toUInt32 &&& Int32.toUInt32 31)).toInt32 :: rest)) : V l G X bc bs M pc lv (.int y :: .int x :: rest) := by
  obtain ⟨p, e, R, s, m, args, below, meth, c, Q, n⟩ := X
  obtain ⟨hx, hb, hml, hn, hown, hts, hK, hlk, hF, hL, htr⟩ := h
  subst hn
  exact fun h1 h2 H locs la hR hS hl => lv_iushr hx hb d rfl (kk h1 h2 H locs la hR hS hl)
theorem r_ineg (h : hX l G X cc nL own F L) {x : Int32} (d : decode cc pc = .ok (.ineg, 1)) (kk : V l G X bc bs M (pc + 1) lv (.int (-x) :: rest)) : V l G X bc bs M pc lv (.int x :: rest) := by
  obtain ⟨p, e, R, s, m, args, below, meth, c, Q, n⟩ := X
  obtain ⟨hx, hb, hml, hn, hown, hts, hK, hlk, hF, hL, htr⟩ := h
  subst hn
  exact fun h1 h2 H locs la hR hS hl => lv_ineg hx hb d (kk h1 h2 H locs la hR hS hl)
theorem r_i2b (h : hX l G X cc nL own F L) {x : Int32} (d : decode cc pc = .ok (.i2b, 1)) (kk : V l G X bc bs M (pc + 1) lv (.int x.toInt8.toInt32 :: rest)) : V l G X bc bs M pc lv (.int x :: rest) := by
  obtain ⟨p, e, R, s, m, args, below, meth, c, Q, n⟩ := X
  obtain ⟨hx, hb, hml, hn, hown, hts, hK, hlk, hF, hL, htr⟩ := h
  subst hn
  exact fun h1 h2 H locs la hR hS hl => lv_i2b hx hb d rfl (kk h1 h2 H locs la hR hS hl)
theorem r_i2l (h : hX l G X cc nL own F L) {x : Int32} (d : decode cc pc = .ok (.i2l, 1)) (kk : V l G X bc bs M (pc + 1) lv (.long x.toInt64 :: rest)) : V l G X bc bs M pc lv (.int x :: rest) := by
  obtain ⟨p, e, R, s, m, args, below, meth, c, Q, n⟩ := X
  obtain ⟨hx, hb, hml, hn, hown, hts, hK, hlk, hF, hL, htr⟩ := h
  subst hn
  exact fun h1 h2 H locs la hR hS hl => lv_i2l hx hb d rfl (kk h1 h2 H locs la hR hS hl)
theorem r_lcmp (h : hX l G X cc nL own F L) {x y : Int64} (d : decode cc pc = .ok (.lcmp, 1)) (kk : V l G X bc bs M (pc + 1) lv (.int (lg_cmp x y) :: rest)) : V l G X bc bs M pc lv (.long y :: .long x :: rest) := by
  obtain ⟨p, e, R, s, m, args, below, meth, c, Q, n⟩ := X
  obtain ⟨hx, hb, hml, hn, hown, hts, hK, hlk, hF, hL, htr⟩ := h
  subst hn
  exact fun h1 h2 H locs la hR hS hl => W.lcmp hx hb d (kk h1 h2 H locs la hR hS hl)
theorem r_dup (h : hX l G X cc nL own F L) {a : Value} (d : decode cc pc = .ok (.dup, 1)) (ha : a.category = 1) (kk : V l G X bc bs M (pc + 1) lv (a :: a :: rest)) : V l G X bc bs M pc lv (a :: rest) := by
  obtain ⟨p, e, R, s, m, args, below, meth, c, Q, n⟩ := X
  obtain ⟨hx, hb, hml, hn, hown, hts, hK, hlk, hF, hL, htr⟩ := h
  subst hn
  exact fun h1 h2 H locs la hR hS hl => lv_dup hx hb d ha (kk h1 h2 H locs la hR hS hl)
theorem r_pop (h : hX l G X cc nL own F L) {a : Value} (d : decode cc pc = .ok (.pop, 1)) (ha : a.category = 1) (kk : V l G X bc bs M (pc + 1) lv rest) : V l G X bc bs M pc lv (a :: rest) := by
  obtain ⟨p, e, R, s, m, args, below, meth, c, Q, n⟩ := X
  obtain ⟨hx, hb, hml, hn, hown, hts, hK, hlk, hF, hL, htr⟩ := h
  subst hn
  exact fun h1 h2 H locs la hR hS hl => lv_pop hx hb d ha (kk h1 h2 H locs la hR hS hl)
theorem r_dup2 (h : hX l G X cc nL own F L) {a b : Value} (d : decode cc pc = .ok (.dup2, 1)) (ha : a.category = 1) (hb9 : b.category = 1) (kk : V l G X bc bs M (pc + 1) lv (a :: b :: a :: b :: rest)) : V l G X bc bs M pc lv (a :: b :: rest) := by
  obtain ⟨p, e, R, s, m, args, below, meth, c, Q, n⟩ := X
  obtain ⟨hx, hb, hml, hn, hown, hts, hK, hlk, hF, hL, htr⟩ := h
  subst hn
  exact fun h1 h2 H locs la hR hS hl => lv_dup2_11 hx hb d ha hb9 (kk h1 h2 H locs la hR hS hl)
theorem r_goto (h : hX l G X cc nL own F L) {off : Int} {tgt : Nat} (d : decode cc pc = .ok (.goto off, 3)) (ht : (pc : Int) + off = (tgt : Int)) (kk : V l G X bc bs M tgt lv rest) : V l G X bc bs M pc lv rest := by
  obtain ⟨p, e, R, s, m, args, below, meth, c, Q, n⟩ := X
  obtain ⟨hx, hb, hml, hn, hown, hts, hK, hlk, hF, hL, htr⟩ := h
  subst hn
  exact fun h1 h2 H locs la hR hS hl => lv_goto hx hb d ht (kk h1 h2 H locs la hR hS hl)
-- branches
theorem r_if_eq (h : hX l G X cc nL own F L) {x : Int32} {off : Int} {tgt : Nat} (d : decode cc pc = .ok (.ifCond .eq off, 3)) (ht : (pc : Int) + off = (tgt : Int)) (kt : x = 0 → V l G X bc bs M tgt lv rest) (kf : ¬ x = 0 → V l G X bc bs M (pc + 3) lv rest) : V l G X bc bs M pc lv (.int x :: rest) := by
  obtain ⟨p, e, R, s, m, args, below, meth, c, Q, n⟩ := X
  obtain ⟨hx, hb, hml, hn, hown, hts, hK, hlk, hF, hL, htr⟩ := h
  subst hn
  exact fun h1 h2 H locs la hR hS hl => lv_if_eq hx hb d ht (fun c => kt c h1 h2 H locs la hR hS hl) (fun c => kf c h1 h2 H locs la hR hS hl)
theorem r_icmp_eq (h : hX l G X cc nL own F L) {x y : Int32} {off : Int} {tgt : Nat} (d : decode cc pc = .ok (.if_icmp .eq off, 3)) (ht : (pc : Int) + off = (tgt : Int)) (kt : x = y → V l G X bc bs M tgt lv rest) (kf : ¬ x = y → V l G X bc bs M (pc + 3) lv rest) : V l G X bc bs M pc lv (.int y :: .int x :: rest) := by
  obtain ⟨p, e, R, s, m, args, below, meth, c, Q, n⟩ := X
  obtain ⟨hx, hb, hml, hn, hown, hts, hK, hlk, hF, hL, htr⟩ := h
  subst hn
  exact fun h1 h2 H locs la hR hS hl => lv_icmp_eq hx hb d ht (fun c => kt c h1 h2 H locs la hR hS hl) (fun c => kf c h1 h2 H locs la hR hS hl)
theorem r_if_ne (h : hX l G X cc nL own F L) {x : Int32} {off : Int} {tgt : Nat} (d : decode cc pc = .ok (.ifCond .ne off, 3)) (ht : (pc : Int) + off = (tgt : Int)) (kt : ¬ x = 0 → V l G X bc bs M tgt lv rest) (kf : x = 0 → V l G X bc bs M (pc + 3) lv rest) : V l G X bc bs M pc lv (.int x :: rest) := by
  obtain ⟨p, e, R, s, m, args, below, meth, c, Q, n⟩ := X
  obtain ⟨hx, hb, hml, hn, hown, hts, hK, hlk, hF, hL, htr⟩ := h
  subst hn
  exact fun h1 h2 H locs la hR hS hl => lv_if_ne hx hb d ht (fun c => kt c h1 h2 H locs la hR hS hl) (fun c => kf c h1 h2 H locs la hR hS hl)
theorem r_icmp_ne (h : hX l G X cc nL own F L) {x y : Int32} {off : Int} {tgt : Nat} (d : decode cc pc = .ok (.if_icmp .ne off, 3)) (ht : (pc : Int) + off = (tgt : Int)) (kt : ¬ x = y → V l G X bc bs M tgt lv rest) (kf : x = y → V l G X bc bs M (pc + 3) lv rest) : V l G X bc bs M pc lv (.int y :: .int x :: rest) := by
  obtain ⟨p, e, R, s, m, args, below, meth, c, Q, n⟩ := X
  obtain ⟨hx, hb, hml, hn, hown, hts, hK, hlk, hF, hL, htr⟩ := h
  subst hn
  exact fun h1 h2 H locs la hR hS hl => lv_icmp_ne hx hb d ht (fun c => kt c h1 h2 H locs la hR hS hl) (fun c => kf c h1 h2 H locs la hR hS hl)
theorem r_if_lt (h : hX l G X cc nL own F L) {x : Int32} {off : Int} {tgt : Nat} (d : decode cc pc = .ok (.ifCond .lt off, 3)) (ht : (pc : Int) + off = (tgt : Int)) (kt : x < 0 → V l G X bc bs M tgt lv rest) (kf : ¬ x < 0 → V l G X bc bs M (pc + 3) lv rest) : V l G X bc bs M pc lv (.int x :: rest) := by
  obtain ⟨p, e, R, s, m, args, below, meth, c, Q, n⟩ := X
  obtain ⟨hx, hb, hml, hn, hown, hts, hK, hlk, hF, hL, htr⟩ := h
  subst hn
  exact fun h1 h2 H locs la hR hS hl => lv_if_lt hx hb d ht (fun c => kt c h1 h2 H locs la hR hS hl) (fun c => kf c h1 h2 H locs la hR hS hl)
theorem r_icmp_lt (h : hX l G X cc nL own F L) {x y : Int32} {off : Int} {tgt : Nat} (d : decode cc pc = .ok (.if_icmp .lt off, 3)) (ht : (pc : Int) + off = (tgt : Int)) (kt : x < y → V l G X bc bs M tgt lv rest) (kf : ¬ x < y → V l G X bc bs M (pc + 3) lv rest) : V l G X bc bs M pc lv (.int y :: .int x :: rest) := by
  obtain ⟨p, e, R, s, m, args, below, meth, c, Q, n⟩ := X
  obtain ⟨hx, hb, hml, hn, hown, hts, hK, hlk, hF, hL, htr⟩ := h
  subst hn
  exact fun h1 h2 H locs la hR hS hl => lv_icmp_lt hx hb d ht (fun c => kt c h1 h2 H locs la hR hS hl) (fun c => kf c h1 h2 H locs la hR hS hl)
theorem r_if_ge (h : hX l G X cc nL own F L) {x : Int32} {off : Int} {tgt : Nat} (d : decode cc pc = .ok (.ifCond .ge off, 3)) (ht : (pc : Int) + off = (tgt : Int)) (kt : 0 ≤ x → V l G X bc bs M tgt lv rest) (kf : ¬ 0 ≤ x → V l G X bc bs M (pc + 3) lv rest) : V l G X bc bs M pc lv (.int x :: rest) := by
  obtain ⟨p, e, R, s, m, args, below, meth, c, Q, n⟩ := X
  obtain ⟨hx, hb, hml, hn, hown, hts, hK, hlk, hF, hL, htr⟩ := h
  subst hn
  exact fun h1 h2 H locs la hR hS hl => lv_if_ge hx hb d ht (fun c => kt c h1 h2 H locs la hR hS hl) (fun c => kf c h1 h2 H locs la hR hS hl)
theorem r_icmp_ge (h : hX l G X cc nL own F L) {x y : Int32} {off : Int} {tgt : Nat} (d : decode cc pc = .ok (.if_icmp .ge off, 3)) (ht : (pc : Int) + off = (tgt : Int)) (kt : y ≤ x → V l G X bc bs M tgt lv rest) (kf : ¬ y ≤ x → V l G X bc bs M (pc + 3) lv rest) : V l G X bc bs M pc lv (.int y :: .int x :: rest) := by
  obtain ⟨p, e, R, s, m, args, below, meth, c, Q, n⟩ := X
  obtain ⟨hx, hb, hml, hn, hown, hts, hK, hlk, hF, hL, htr⟩ := h
  subst hn
  exact fun h1 h2 H locs la hR hS hl => lv_icmp_ge hx hb d ht (fun c => kt c h1 h2 H locs la hR hS hl) (fun c => kf c h1 h2 H locs la hR hS hl)
theorem r_if_gt (h : hX l G X cc nL own F L) {x : Int32} {off : Int} {tgt : Nat} (d : decode cc pc = .ok (.ifCond .gt off, 3)) (ht : (pc : Int) + off = (tgt : Int)) (kt : 0 < x → V l G X bc bs M tgt lv rest) (kf : ¬ 0 < x → V l G X bc bs M (pc + 3) lv rest) : V l G X bc bs M pc lv (.int x :: rest) := by
  obtain ⟨p, e, R, s, m, args, below, meth, c, Q, n⟩ := X
  obtain ⟨hx, hb, hml, hn, hown, hts, hK, hlk, hF, hL, htr⟩ := h
  subst hn
  exact fun h1 h2 H locs la hR hS hl => lv_if_gt hx hb d ht (fun c => kt c h1 h2 H locs la hR hS hl) (fun c => kf c h1 h2 H locs la hR hS hl)
theorem r_icmp_gt (h : hX l G X cc nL own F L) {x y : Int32} {off : Int} {tgt : Nat} (d : decode cc pc = .ok (.if_icmp .gt off, 3)) (ht : (pc : Int) + off = (tgt : Int)) (kt : y < x → V l G X bc bs M tgt lv rest) (kf : ¬ y < x → V l G X bc bs M (pc + 3) lv rest) : V l G X bc bs M pc lv (.int y :: .int x :: rest) := by
  obtain ⟨p, e, R, s, m, args, below, meth, c, Q, n⟩ := X
  obtain ⟨hx, hb, hml, hn, hown, hts, hK, hlk, hF, hL, htr⟩ := h
  subst hn
  exact fun h1 h2 H locs la hR hS hl => lv_icmp_gt hx hb d ht (fun c => kt c h1 h2 H locs la hR hS hl) (fun c => kf c h1 h2 H locs la hR hS hl)
theorem r_if_le (h : hX l G X cc nL own F L) {x : Int32} {off : Int} {tgt : Nat} (d : decode cc pc = .ok (.ifCond .le off, 3)) (ht : (pc : Int) + off = (tgt : Int)) (kt : x ≤ 0 → V l G X bc bs M tgt lv rest) (kf : ¬ x ≤ 0 → V l G X bc bs M (pc + 3) lv rest) : V l G X bc bs M pc lv (.int x :: rest) := by
  obtain ⟨p, e, R, s, m, args, below, meth, c, Q, n⟩ := X
  obtain ⟨hx, hb, hml, hn, hown, hts, hK, hlk, hF, hL, htr⟩ := h
  subst hn
  exact fun h1 h2 H locs la hR hS hl => lv_if_le hx hb d ht (fun c => kt c h1 h2 H locs la hR hS hl) (fun c => kf c h1 h2 H locs la hR hS hl)
theorem r_icmp_le (h : hX l G X cc nL own F L) {x y : Int32} {off : Int} {tgt : Nat} (d : decode cc pc = .ok (.if_icmp .le off, 3)) (ht : (pc : Int) + off = (tgt : Int)) (kt : x ≤ y → V l G X bc bs M tgt lv rest) (kf : ¬ x ≤ y → V l G X bc bs M (pc + 3) lv rest) : V l G X bc bs M pc lv (.int y :: .int x :: rest) := by
  obtain ⟨p, e, R, s, m, args, below, meth, c, Q, n⟩ := X
  obtain ⟨hx, hb, hml, hn, hown, hts, hK, hlk, hF, hL, htr⟩ := h
  subst hn
  exact fun h1 h2 H locs la hR hS hl => lv_icmp_le hx hb d ht (fun c => kt c h1 h2 H locs la hR hS hl) (fun c => kf c h1 h2 H locs la hR hS hl)
theorem r_tableOut (h : hX l G X cc nL own F L) {dflt lo hi : Int} {offs : Array Int} {len : Nat} {x : Int32} {tgt : Nat} (d : decode cc pc = .ok (.tableswitch dflt lo hi offs, len)) (hh : x.toInt < lo ∨ hi < x.toInt) (ht : (pc : Int) + dflt = (tgt : Int)) (kk : V l G X bc bs M tgt lv rest) : V l G X bc bs M pc lv (.int x :: rest) := by
  obtain ⟨p, e, R, s, m, args, below, meth, c, Q, n⟩ := X
  obtain ⟨hx, hb, hml, hn, hown, hts, hK, hlk, hF, hL, htr⟩ := h
  subst hn
  exact fun h1 h2 H locs la hR hS hl => lv_tableOut hx hb d hh ht (kk h1 h2 H locs la hR hS hl)
theorem r_tableIn (h : hX l G X cc nL own F L) {dflt lo hi : Int} {offs : Array Int} {len : Nat} {x : Int32} {off : Int} {tgt : Nat} (d : decode cc pc = .ok (.tableswitch dflt lo hi offs, len)) (hl1 : ¬ x.toInt < lo) (hl2 : ¬ hi < x.toInt) (ho : offs[(x.toInt - lo).toNat]? = some off) (ht : (pc : Int) + off = (tgt : Int)) (kk : V l G X bc bs M tgt lv rest) : V l G X bc bs M pc lv (.int x :: rest) := by
  obtain ⟨p, e, R, s, m, args, below, meth, c, Q, n⟩ := X
  obtain ⟨hx, hb, hml, hn, hown, hts, hK, hlk, hF, hL, htr⟩ := h
  subst hn
  exact fun h1 h2 H locs la hR hS hl => lv_tableIn hx hb d hl1 hl2 ho ht (kk h1 h2 H locs la hR hS hl)
theorem r_ifnull_n (h : hX l G X cc nL own F L) {a : Nat} {off : Int} (d : decode cc pc = .ok (.ifnull off, 3)) (kk : V l G X bc bs M (pc + 3) lv rest) : V l G X bc bs M pc lv (.ref a :: rest) := by
  obtain ⟨p, e, R, s, m, args, below, meth, c, Q, n⟩ := X
  obtain ⟨hx, hb, hml, hn, hown, hts, hK, hlk, hF, hL, htr⟩ := h
  subst hn
  exact fun h1 h2 H locs la hR hS hl => lv_ifnull hx hb d (kk h1 h2 H locs la hR hS hl)
theorem r_ifnull_y (h : hX l G X cc nL own F L) {off : Int} {tgt : Nat} (d : decode cc pc = .ok (.ifnull off, 3)) (ht : (pc : Int) + off = (tgt : Int)) (kk : V l G X bc bs M tgt lv rest) : V l G X bc bs M pc lv (.null :: rest) := by
  obtain ⟨p, e, R, s, m, args, below, meth, c, Q, n⟩ := X
  obtain ⟨hx, hb, hml, hn, hown, hts, hK, hlk, hF, hL, htr⟩ := h
  subst hn
  exact fun h1 h2 H locs la hR hS hl => lv_ifnullN hx hb d ht (kk h1 h2 H locs la hR hS hl)
theorem r_nam {e : Int32} (kk : ∀ x, x = e → V l G X bc bs M pc lv (.int x :: rest)) : V l G X bc bs M pc lv (.int e :: rest) := kk e rfl
theorem r_goW {M1 : gM} {st : List Value} (kk : ∀ M', M' = M1 → V l G X bc bs M' pc lv st) : V l G X bc bs M1 pc lv st := kk M1 rfl
end ROWS2
