/-! CORE 4: rows over V: new, ends, calls, throws, Math, copies -/
section ROWS4
variable {l : Launch} {G : gG} {X : gX} {cc : ByteArray} {nL : Nat} {own : String} {F L bc bs : Nat} {M : gM} {pc : Nat} {lv lv' : List (Nat × Value)} {rest : List Value} {a : Nat}
theorem r_new (h : hX l G X cc nL own F L) (ci : Nat) {C : String} {T : u_T} {N : Nat} (hin : ∀ w ∈ u_ws C T N, w ∈ lw_all) (ty0 : Nat → FieldType) (hty : ∀ k, k < N → parseFieldDescriptor (T k).2.2.1 = some (ty0 k)) (hc : gCl[ci]? = some (C, T, N)) (hdv : ∀ k, k < N → defaultValue (ty0 k) = if gIsR (gFty ci k) then .null else .int 0) {index : Nat} (hcl : Cond.classLink own index C ∈ lw_all) (hins : Cond.instantiable C N ∈ lw_all) (hini : Cond.initialized C ∈ lw_all) (d : decode cc pc = .ok (.new index, 3)) (h1 : 1 ≤ bc) (h2 : N ≤ bs)
    (kk : V l G X (bc - 1) (bs - N) (sN M (.inl ci)) (pc + 3) lv (.ref (sz M) :: rest)) : V l G X bc bs M pc lv rest := by
  obtain ⟨p, e, R, s, m, args, below, meth, c, Q, nl⟩ := X
  obtain ⟨hx, hb, hml, hnl, hown, hts, hK, hlk, hF, hL, htr⟩ := h
  intro g1 g2 H locs la hR hS hl
  have hKn := hK.1 ci _ hc
  refine W.newcK hx hb hown (hts _ hcl) (hts _ hins) (hts _ hini) rfl d (by omega) (by omega) hKn.2.1 hR.1 fun H1 kC hkC e1 z1 o1 => ?_
  have hat : gAt G (sN M (.inl ci)) (sz M) H1 := by
    unfold gAt
    rw [show kd (sN M (.inl ci)) (sz M) = some (.inl ci) from if_pos rfl]
    refine ⟨hR.2.1, _, hc, (u_born ty0 hts hin hKn hkC e1 hty).to fun k hk => ?_⟩
    rw [hdv k hk]
    unfold fv
    rw [show rv (sN M (.inl ci)) (sz M) k = none from if_pos rfl, show iv (sN M (.inl ci)) (sz M) k = 0 from if_pos rfl]
    rfl
  have hR1 : Rp G (sN M (.inl ci)) H1 := hR.new (by rw [z1, hR.1]) (fun q hq => o1 q (by rw [← hR.1]; exact hq)) hat
  have k := kk (by omega) (by omega) H1 locs la hR1 ⟨Nat.le_trans hS.1 (by rw [z1, ← hR.1]; exact Nat.le_succ _), fun q q1 q2 => (o1 q (by rw [← hR.1]; exact Nat.lt_of_lt_of_le q1 hS.1)).trans (hS.2.1 q q1 q2), hS.2.2⟩ hl
  rw [show R.cells - (bc - 1) = R.cells - bc + 1 by omega, show R.slots - (bs - N) = R.slots - bs + N by omega] at k
  exact k
theorem r_newA {c9 : ClassId} {k9 : Nat} (ht : k9 < 3) {H1 : Heap} {N : Nat} {H : Heap} (hR : Rp G M H) (e1 : H1[sz M]? = some (arrV c9 N (fun _ => defaultValue (gTy k9)))) (z1 : H1.size = sz M + 1) (o1 : ∀ q, q < sz M → H1[q]? = H[q]?) (hc9 : gGA G k9 = c9) : Rp G (sN M (.inr (k9, N))) H1 := by
  refine hR.new (by rw [z1, hR.1]) (fun q hq => o1 q (by rw [← hR.1]; exact hq)) (gAt_arr (t := k9) (n := N) (if_pos rfl) hR.2.1 (by omega) ?_)
  rw [e1, hc9]
  match k9, ht with
  | 0, _ => exact congrArg some (congrArg (arrV c9 N) (funext fun j => (congrArg Value.int (show iv (sN M (.inr (0, N))) (sz M) j = 0 from if_pos rfl)).symm))
  | 1, _ => exact congrArg some (congrArg (arrV c9 N) (funext fun j => (congrArg Value.int (show iv (sN M (.inr (1, N))) (sz M) j = 0 from if_pos rfl)).symm))
  | 2, _ => exact congrArg some (congrArg (arrV c9 N) (funext fun j => (congrArg Value.long (show jv (sN M (.inr (2, N))) (sz M) j = 0 from if_pos rfl)).symm))
theorem r_newarray (h : hX l G X cc nL own F L) (t : Nat) (ht : t < 3) {atype : ArrayType} (hat : newarray.typeOf atype = gTy t) (harr : Cond.arrayClass (gTy t) ∈ lw_all) {n : Int32} {N : Nat} (d : decode cc pc = .ok (.newarray atype, 2)) (hn : ¬ n < 0) (hN : n.toNatClampNeg = N) (hby : N * 8 ≤ 536870912) (h1 : 1 ≤ bc) (h2 : N ≤ bs)
    (kk : V l G X (bc - 1) (bs - N) (sN M (.inr (t, N))) (pc + 2) lv (.ref (sz M) :: rest)) : V l G X bc bs M pc lv (.int n :: rest) := by
  obtain ⟨p, e, R, s, m, args, below, meth, c, Q, nl⟩ := X
  obtain ⟨hx, hb, hml, hnl, hown, hts, hK, hlk, hF, hL, htr⟩ := h
  intro g1 g2 H locs la hR hS hl
  have hcb : N * componentBytes (newarray.typeOf atype) ≤ 536870912 := by
    refine Nat.le_trans (Nat.mul_le_mul_left N ?_) hby
    rw [hat]
    match t, ht with
    | 0, _ => decide
    | 1, _ => decide
    | 2, _ => decide
  refine va_newaK hx hb (atype := atype) (by rw [hat]; exact hts _ harr) rfl d rfl hn hN hcb (by omega) (by omega) hR.1 fun H1 cA e1 z1 o1 hAr hNm => ?_
  have hcA : gGA G t = cA := by
    have h9 := (hK.2.1 t (by omega)).2
    rw [hat] at hNm
    match t, ht with
    | 0, _ => exact Option.some.inj (h9.symm.trans hNm)
    | 1, _ => exact Option.some.inj (h9.symm.trans hNm)
    | 2, _ => exact Option.some.inj (h9.symm.trans hNm)
  rw [hat] at e1
  have hR1 := r_newA ht hR e1 z1 o1 hcA
  have k := kk (by omega) (by omega) H1 locs la hR1 ⟨Nat.le_trans hS.1 (by rw [z1, ← hR.1]; exact Nat.le_succ _), fun q q1 q2 => (o1 q (by rw [← hR.1]; exact Nat.lt_of_lt_of_le q1 hS.1)).trans (hS.2.1 q q1 q2), hS.2.2⟩ hl
  rw [show R.cells - (bc - 1) = R.cells - bc + 1 by omega, show R.slots - (bs - N) = R.slots - bs + N by omega] at k
  exact k
theorem r_anewarray (h : hX l G X cc nL own F L) (t : Nat) (h3 : 3 ≤ t) (h10 : t < 10) {C : String} (htC : gTy t = .object C) {index : Nat} (hcl : Cond.classLink own index C ∈ lw_all) {n : Int32} {N : Nat} (d : decode cc pc = .ok (.anewarray index, 3)) (hn : ¬ n < 0) (hN : n.toNatClampNeg = N) (hby : N * 4 ≤ 536870912) (h1 : 1 ≤ bc) (h2 : N ≤ bs)
    (kk : V l G X (bc - 1) (bs - N) (sN M (.inr (t, N))) (pc + 3) lv (.ref (sz M) :: rest)) : V l G X bc bs M pc lv (.int n :: rest) := by
  obtain ⟨p, e, R, s, m, args, below, meth, c, Q, nl⟩ := X
  obtain ⟨hx, hb, hml, hnl, hown, hts, hK, hlk, hF, hL, htr⟩ := h
  intro g1 g2 H locs la hR hS hl
  subst hN
  have hAO := hK.2.2.2.2.1 t h3 h10
  rw [htC] at hAO
  refine W.anew hx hb hown (hts _ hcl) (va_AO.use hAO) rfl d rfl hn hby (by omega) (by omega) fun cA kA comp f1 f2 f3 f4 => ?_
  generalize hH1 : H.push ({ cls := cA, slots := Array.replicate n.toNatClampNeg .null, vm := .none } : Cell) = H1
  have z1 : H1.size = H.size + 1 := by rw [← hH1, Array.size_push]
  have e1 : H1[H.size]? = some (arrV cA n.toNatClampNeg (fun _ => .null)) := by rw [← hH1, Array.getElem?_push_size, ← arrV_new]
  have o1 : ∀ q : Nat, q < H.size → H1[q]? = H[q]? := fun q hq => by rw [← hH1, Array.getElem?_push, if_neg (Nat.ne_of_lt hq)]
  have hcA : gGA G t = cA := by
    have h9 := (hK.2.1 t h10).2
    rw [htC] at h9
    obtain ⟨kA2, comp2, q1, q2, q3, q4⟩ := h9
    exact Option.some.inj (q4.symm.trans f1)
  have hR1 : Rp G (sN M (.inr (t, n.toNatClampNeg))) H1 := by
    refine hR.new z1 o1 (gAt_arr (t := t) (n := n.toNatClampNeg) (if_pos rfl) hR.2.1 h10 ?_)
    rw [← hR.1, e1, hcA, gAcR h3, vp_cell_q]
    exact congrArg some (congrArg (arrV cA n.toNatClampNeg) (funext fun j => by
      rw [show rv (sN M (.inr (t, n.toNatClampNeg))) H.size j = none by rw [hR.1]; exact if_pos rfl]
      rfl))
  have k := kk (by omega) (by omega) H1 locs la hR1 ⟨Nat.le_trans hS.1 (by rw [z1]; exact Nat.le_succ _), fun q q1 q2 => (o1 q (Nat.lt_of_lt_of_le q1 hS.1)).trans (hS.2.1 q q1 q2), hS.2.2⟩ hl
  rw [show R.cells - (bc - 1) = R.cells - bc + 1 by omega, show R.slots - (bs - n.toNatClampNeg) = R.slots - bs + n.toNatClampNeg by omega, ← hR.1] at k
  exact k
-- ends
variable {ret : Option FieldType} {tb : List (Nat × Nat × Nat × Nat)} {ini : String} {K : Option Value → gM → Prop} {KX : Addr → String → gM → Prop}
theorem r_ireturn (h : hX l G X cc nL own F L) (hq : hQ G X (some .int) tb ini K KX) {x : Int32} (d : decode cc pc = .ok (.ireturn, 1)) (hk : K (some (.int x)) M) : V l G X bc bs M pc lv [.int x] := by
  obtain ⟨p, e, R, s, m, args, below, meth, c, Q, nl⟩ := X
  obtain ⟨hx, hb, hml, hnl, hown, hts, hK, hlk, hF, hL, htr⟩ := h
  obtain ⟨rfl, hret, -, -⟩ := hq
  intro g1 g2 H locs la hR hS hl
  refine W.widen (Nat.sub_le _ _) (Nat.sub_le _ _) (vx_ret ?_)
  exact W.iret hx hb hret (fun t ht hW => ⟨_, M, rfl, hk, by rw [ht]; exact hR, hS.F ht⟩) hS.2.2 d hlk
theorem r_zreturn (h : hX l G X cc nL own F L) (hq : hQ G X (some .boolean) tb ini K KX) {x : Int32} (d : decode cc pc = .ok (.ireturn, 1)) (hz : x = 0 ∨ x = 1) (hk : K (some (.int x)) M) : V l G X bc bs M pc lv [.int x] := by
  obtain ⟨p, e, R, s, m, args, below, meth, c, Q, nl⟩ := X
  obtain ⟨hx, hb, hml, hnl, hown, hts, hK, hlk, hF, hL, htr⟩ := h
  obtain ⟨rfl, hret, -, -⟩ := hq
  intro g1 g2 H locs la hR hS hl
  refine W.widen (Nat.sub_le _ _) (Nat.sub_le _ _) (vx_ret ?_)
  exact W.zret hx hb hret (by rcases hz with rfl | rfl <;> rfl) (fun t ht hW => ⟨_, M, rfl, hk, by rw [ht]; exact hR, hS.F ht⟩) hS.2.2 d hlk
theorem r_return (h : hX l G X cc nL own F L) (hq : hQ G X none tb ini K KX) (d : decode cc pc = .ok (.return_, 1)) (hk : K none M) : V l G X bc bs M pc lv [] := by
  obtain ⟨p, e, R, s, m, args, below, meth, c, Q, nl⟩ := X
  obtain ⟨hx, hb, hml, hnl, hown, hts, hK, hlk, hF, hL, htr⟩ := h
  obtain ⟨rfl, hret, -, -⟩ := hq
  intro g1 g2 H locs la hR hS hl
  refine W.widen (Nat.sub_le _ _) (Nat.sub_le _ _) (vx_ret ?_)
  exact W.vret hx hb hret (fun t ht hW => ⟨_, M, rfl, hk, by rw [ht]; exact hR, hS.F ht⟩) hS.2.2 d hlk
theorem r_areturn (h : hX l G X cc nL own F L) {C : String} (hq : hQ G X (some (.object C)) tb ini K KX) (d : decode cc pc = .ok (.areturn, 1)) (hk : K (some (.ref a)) M) : V l G X bc bs M pc lv [.ref a] := by
  obtain ⟨p, e, R, s, m, args, below, meth, c, Q, nl⟩ := X
  obtain ⟨hx, hb, hml, hnl, hown, hts, hK, hlk, hF, hL, htr⟩ := h
  obtain ⟨rfl, hret, -, -⟩ := hq
  intro g1 g2 H locs la hR hS hl
  refine W.widen (Nat.sub_le _ _) (Nat.sub_le _ _) (vx_ret ?_)
  exact W.aret hx hb hret (Or.inl ⟨C, rfl⟩) (Or.inr ⟨a, rfl⟩) (fun t ht hW => ⟨_, M, rfl, hk, by rw [ht]; exact hR, hS.F ht⟩) hS.2.2 d hlk
/-- thrown out of a method without handlers -/
theorem r_out (h : hX l G X cc nL own F L) (hq : hQ G X ret [] ini K KX) {q : Addr} {E : String} (hk : KX q E M) : VX l G X bc bs M pc lv q E := by
  obtain ⟨p, e, R, s, m, args, below, meth, c, Q, nl⟩ := X
  obtain ⟨hx, hb, hml, hnl, hown, hts, hK, hlk, hF, hL, htr⟩ := h
  obtain ⟨rfl, hret, htab, -⟩ := hq
  intro g1 g2 H locs la rest ce hR hS hl hcell hv hcl
  exact vx_out (by rw [htab]; exact fun x hx => nomatch hx) hlk hcell hv hcl (fun t ht hW => ⟨M, hk, by rw [ht]; exact hR, hS.F ht⟩) hS.2.2 (Nat.sub_le _ _) (Nat.sub_le _ _)
theorem r_athrow (h : hX l G X cc nL own F L) (ci : Nat) {q : vw_C} (hc : gCl[ci]? = some q) (d : decode cc pc = .ok (.athrow, 1)) (hkd : kd M a = some (.inl ci)) (kk : VX l G X bc bs M pc lv a q.1) : V l G X bc bs M pc lv (.ref a :: rest) := by
  obtain ⟨p, e, R, s, m, args, below, meth, c, Q, nl⟩ := X
  obtain ⟨hx, hb, hml, hnl, hown, hts, hK, hlk, hF, hL, htr⟩ := h
  intro g1 g2 H locs la hR hS hl
  obtain ⟨-, cell, q1, q2, q3, q4⟩ := gOb hR hkd hc
  exact vx_athrow hx hb d (kk g1 g2 H locs la rest cell hR hS hl q1 q3 (by rw [q2]; exact (hK.1 ci _ hc).2.1))
/-- Object's constructor -/
theorem r_objinit (h : hX l G X cc nL own F L) {idx : Nat} (hlink : Cond.methodLink own idx Lib.objectInit ∈ lw_all) (hin : Cond.instanceMethod Lib.objectInit ∈ lw_all) (hcode : Cond.code Lib.objectInit ⟨#[0xb1]⟩ 1 none ∈ lw_all) (d : decode cc pc = .ok (.invokespecial idx, 3)) (hF : 1 ≤ F) (hL : 20 ≤ L) (hst : (rest.map fun v => v.category).sum ≤ 8) (kk : V l G X bc bs M (pc + 3) lv rest) : V l G X bc bs M pc lv (.ref a :: rest) := by
  obtain ⟨p, e, R, s, m, args, below, meth, c, Q, nl⟩ := X
  obtain ⟨hx, hb, hml, hnl, hown, hts, hK, hlk, hF9, hL9, htr⟩ := h
  intro g1 g2 H locs la hR hS hl
  refine W.objInit hx hb hown (hts _ hlink) (hts _ hin) (hts _ hcode) rfl (by rw [hml, ← hnl]; exact hl.1) rfl d (Nat.le_trans hF hF9) (by show 2 * 0 + _ + 12 ≤ _; omega) ?_
  exact W.eq (g2 := F0 m (pc + 3) la rest) rfl (kk g1 g2 H locs la hR hS hl)
theorem r_mmax (h : hX l G X cc nL own F L) {index : Nat} (hlink : Cond.methodLink own index Lib.Math.max.name ∈ lw_all) (hstat : Cond.static Lib.Math.max.name ∈ lw_all) (hini : Cond.initialized "java/lang/Math" ∈ lw_all) (hcode : Cond.code Lib.Math.max.name Lib.Math.max.code 2 (some .int) ∈ lw_all) {x y : Int32} (d : decode cc pc = .ok (.invokestatic index, 3)) (hF : 1 ≤ F) (hL : 21 ≤ L) (hst : (rest.map fun v => v.category).sum ≤ 8) (kk : V l G X bc bs M (pc + 3) lv (.int (if x < y then y else x) :: rest)) : V l G X bc bs M pc lv (.int y :: .int x :: rest) := by
  obtain ⟨p, e, R, s, m, args, below, meth, c, Q, nl⟩ := X
  obtain ⟨hx, hb, hml, hnl, hown, hts, hK, hlk, hF9, hL9, htr⟩ := h
  intro g1 g2 H locs la hR hS hl
  exact va_mmax hx hb (by rw [hml, ← hnl]; exact hl.1.symm) hown (hts _ hlink) (hts _ hstat) (hts _ hini) (hts _ hcode) (Nat.le_trans hF hF9) (by omega) (Nat.sub_le _ _) (Nat.sub_le _ _) d (kk g1 g2 H locs la hR hS hl)
theorem r_mmin (h : hX l G X cc nL own F L) {index : Nat} (hlink : Cond.methodLink own index Lib.Math.min.name ∈ lw_all) (hstat : Cond.static Lib.Math.min.name ∈ lw_all) (hini : Cond.initialized "java/lang/Math" ∈ lw_all) (hcode : Cond.code Lib.Math.min.name Lib.Math.min.code 2 (some .int) ∈ lw_all) {x y : Int32} (d : decode cc pc = .ok (.invokestatic index, 3)) (hF : 1 ≤ F) (hL : 21 ≤ L) (hst : (rest.map fun v => v.category).sum ≤ 8) (kk : V l G X bc bs M (pc + 3) lv (.int (if y < x then y else x) :: rest)) : V l G X bc bs M pc lv (.int y :: .int x :: rest) := by
  obtain ⟨p, e, R, s, m, args, below, meth, c, Q, nl⟩ := X
  obtain ⟨hx, hb, hml, hnl, hown, hts, hK, hlk, hF9, hL9, htr⟩ := h
  intro g1 g2 H locs la hR hS hl
  exact va_mmin hx hb (by rw [hml, ← hnl]; exact hl.1.symm) hown (hts _ hlink) (hts _ hstat) (hts _ hini) (hts _ hcode) (Nat.le_trans hF hF9) (by omega) (Nat.sub_le _ _) (Nat.sub_le _ _) d (kk g1 g2 H locs la hR hS hl)
end ROWS4
/-! calls -/
section CALLS4
variable {l : Launch} {G : gG} {p : Program} {e : Env} {R : Room} {s : State} {m : MethodId} {args : Array Value} {below : List Frame} {meth : Method} {c : Code} {Q : State → Prop} {nl : Nat}
variable {bc bs mc ms : Nat} {pc w9 : Nat} {lv : List (Nat × Value)} {rest st0 : List Value} {K' : Option Value → gM → Prop} {KX' : Addr → String → gM → Prop} {H : Heap} {locs : List Loc} {la : Array Slot} {a' : Array Value}
/-- behind a call, whatever its kind -/
theorem r_run (g1 : bc ≤ R.cells) (g2 : bs ≤ R.slots) (hc : mc ≤ bc) (hs : ms ≤ bs) (hS : va_S (gF G) s.heap H locs) (hl : lv_has la nl lv) (hr : vx_Run p l e R s m args below meth c H locs (R.cells - bc) (R.slots - bs) mc ms (F0 m pc la st0) rest (gQ G K' a') (gE G KX') (gF G))
    (kk : ∀ v M', K' v M' → V l G (p, e, R, s, m, args, below, meth, c, Q, nl) (bc - mc) (bs - ms) M' (pc + 3) lv (v.toList ++ rest)) (kx : ∀ q E M', KX' q E M' → VX l G (p, e, R, s, m, args, below, meth, c, Q, nl) (bc - mc) (bs - ms) M' pc lv q E) : W p l e R s m args below meth c H locs (R.cells - bc) (R.slots - bs) Q (F0 m pc la st0) := by
  intro T hT Xs
  have c1 : R.cells - bc + mc = R.cells - (bc - mc) := by omega
  have c2 : R.slots - bs + ms = R.slots - (bs - ms) := by omega
  rcases hr T hT Xs with ⟨v, st₀, t, T', L, h0, X', hL, e1, e2, ⟨v', M', hv, hK', hR', hF⟩, st⟩ | ⟨q, st₀, t, T', L, E, ce, h0, X', hL, e1, e2, ⟨M', hKX', hR', hF⟩, hce, hcv, hcl, st⟩
  · cases hv
    obtain ⟨-, -, k3⟩ := vx_keep h0 e1 hS (fun q _ h => h) (fun q h => h) hL hF
    rw [c1, c2] at X'
    obtain ⟨t2, a1, b1⟩ := kk v M' hK' (Nat.le_trans (Nat.sub_le _ _) g1) (Nat.le_trans (Nat.sub_le _ _) g2) T'.heap (locs ++ L) la (by rw [e1]; exact hR') k3 hl T' rfl X'
    exact ⟨t2, st t2 a1, b1⟩
  · obtain ⟨-, -, k3⟩ := vx_keep h0 e1 hS (fun q _ h => h) (fun q h => h) hL hF
    rw [c1, c2] at X'
    obtain ⟨t2, a1, b1⟩ := kx q E M' hKX' (Nat.le_trans (Nat.sub_le _ _) g1) (Nat.le_trans (Nat.sub_le _ _) g2) T'.heap (locs ++ L) la rest ce (by rw [e1]; exact hR') k3 hl (by rw [e1]; exact hce) hcv hcl T' rfl X'
    exact ⟨t2, st.trans a1, b1⟩
theorem r_run5 (g1 : bc ≤ R.cells) (g2 : bs ≤ R.slots) (hc : mc ≤ bc) (hs : ms ≤ bs) (hS : va_S (gF G) s.heap H locs) (hl : lv_has la nl lv) (hr : vx_Run5 p l e R s m args below meth c H locs (R.cells - bc) (R.slots - bs) mc ms (F0 m pc la st0) rest (gQ G K' a') (gE G KX') (gF G))
    (kk : ∀ v M', K' v M' → V l G (p, e, R, s, m, args, below, meth, c, Q, nl) (bc - mc) (bs - ms) M' (pc + 5) lv (v.toList ++ rest)) (kx : ∀ q E M', KX' q E M' → VX l G (p, e, R, s, m, args, below, meth, c, Q, nl) (bc - mc) (bs - ms) M' pc lv q E) : W p l e R s m args below meth c H locs (R.cells - bc) (R.slots - bs) Q (F0 m pc la st0) := by
  intro T hT Xs
  have c1 : R.cells - bc + mc = R.cells - (bc - mc) := by omega
  have c2 : R.slots - bs + ms = R.slots - (bs - ms) := by omega
  rcases hr T hT Xs with ⟨v, st₀, t, T', L, h0, X', hL, e1, e2, ⟨v', M', hv, hK', hR', hF⟩, st⟩ | ⟨q, st₀, t, T', L, E, ce, h0, X', hL, e1, e2, ⟨M', hKX', hR', hF⟩, hce, hcv, hcl, st⟩
  · cases hv
    obtain ⟨-, -, k3⟩ := vx_keep h0 e1 hS (fun q _ h => h) (fun q h => h) hL hF
    rw [c1, c2] at X'
    obtain ⟨t2, a1, b1⟩ := kk v M' hK' (Nat.le_trans (Nat.sub_le _ _) g1) (Nat.le_trans (Nat.sub_le _ _) g2) T'.heap (locs ++ L) la (by rw [e1]; exact hR') k3 hl T' rfl X'
    exact ⟨t2, st t2 a1, b1⟩
  · obtain ⟨-, -, k3⟩ := vx_keep h0 e1 hS (fun q _ h => h) (fun q h => h) hL hF
    rw [c1, c2] at X'
    obtain ⟨t2, a1, b1⟩ := kx q E M' hKX' (Nat.le_trans (Nat.sub_le _ _) g1) (Nat.le_trans (Nat.sub_le _ _) g2) T'.heap (locs ++ L) la rest ce (by rw [e1]; exact hR') k3 hl (by rw [e1]; exact hce) hcv hcl T' rfl X'
    exact ⟨t2, st.trans a1, b1⟩
theorem gRecv {M : gM} {b ci : Nat} {q : vw_C} (hR : Rp G M H) (hK : KK G s) (hkd : kd M b = some (.inl ci)) (hc : gCl[ci]? = some q) : ∃ cell : Cell, H[b]? = some cell ∧ cell.vm.isStatics = false ∧ s.vm.findClass q.1 = some cell.cls := by
  obtain ⟨-, cell, q1, q2, q3, -⟩ := gOb hR hkd hc
  exact ⟨cell, q1, by rw [q3]; rfl, by rw [q2]; exact (hK.1 ci q hc).2.1⟩
end CALLS4
section CALLS5
variable {l : Launch} {G : gG} {X : gX} {cc : ByteArray} {nL : Nat} {own : String} {F L bc bs : Nat} {M : gM} {pc : Nat} {lv : List (Nat × Value)} {rest st0 : List Value} {K' : Option Value → gM → Prop} {KX' : Addr → String → gM → Prop} {y : MethodName} {bytes : ByteArray} {maxL index n b : Nat} {ret : Option FieldType} {rm : Room} {As : List Value} {hh : List (Nat × Nat × Nat × Nat)}
abbrev yOk (y : MethodName) (n : Nat) : Prop := y.cls ≠ "java/lang/invoke/MethodHandle" ∧ y.cls ≠ "java/lang/invoke/VarHandle" ∧ (parseMethodDescriptor y.desc).map (fun d => d.parameters.length) = some n
theorem r_callV (h : hX l G X cc nL own F L) (hM : gMet l G y (ws_ y bytes maxL ret) rm M (.ref b :: As) K' KX') (ci : Nat) {q : vw_C} (hcl : gCl[ci]? = some q) (hkd : kd M b = some (.inl ci)) (hy : y.cls = q.1) (hyo : yOk y n) (d : decode cc pc = .ok (.invokevirtual index, 3)) (hlink : Cond.methodLink own index y ∈ lw_all) (hin : Cond.instanceMethod y ∈ lw_all) (hsel : Cond.selects y.cls y y ∈ lw_all) (hini : Cond.initialized y.cls ∈ lw_all) (hcode : Cond.code y bytes maxL ret ∈ lw_all) (hn : As.length = n) (hst0 : st0 = As.reverse ++ .ref b :: rest) (hst : (rest.map fun v => v.category).sum ≤ 8) (hF : rm.frames + 1 ≤ F) (hL : 8 + (maxL + 11) + rm.locals ≤ L) (hc : rm.cells ≤ bc) (hs : rm.slots ≤ bs)
    (kk : ∀ v M', K' v M' → V l G X (bc - rm.cells) (bs - rm.slots) M' (pc + 3) lv (v.toList ++ rest)) (kx : ∀ q E M', KX' q E M' → VX l G X (bc - rm.cells) (bs - rm.slots) M' pc lv q E) : V l G X bc bs M pc lv st0 := by
  obtain ⟨p, e, R, s, m, args, below, meth, c, Q, nl⟩ := X
  obtain ⟨hx, hb, hml, hnl, hown, hts, hK, hlk, hF9, hL9, htr⟩ := h
  intro g1 g2 H locs la hR hS hl
  subst hst0
  refine r_run g1 g2 hc hs hS hl (vx_runV (nL := nl) (n := n) ⟨hx, hb, by rw [hml, hnl], hown, hts⟩ hM (cwV n hts (lw_V (C := y.cls) hlink hin hsel hini hcode) rfl rfl rfl ⟨rfl, hyo⟩ ⟨Nat.le_trans hF hF9, Nat.le_trans hL hL9⟩) ⟨gP.blind, by rw [hy]; exact gRecv hR hK hkd hcl, gP.at hR hS hK⟩ rfl hn hl.1 rfl (by show 2 * 0 + _ ≤ 8; omega) d ⟨by omega, by omega⟩) kk kx
theorem r_callVH (h : hX l G X cc nL own F L) (hM : gMet l G y (wsW_ y bytes maxL ret hh) rm M (.ref b :: As) K' KX') (ci : Nat) {q : vw_C} (hcl : gCl[ci]? = some q) (hkd : kd M b = some (.inl ci)) (hy : y.cls = q.1) (hyo : yOk y n) (d : decode cc pc = .ok (.invokevirtual index, 3)) (hlink : Cond.methodLink own index y ∈ lw_all) (hin : Cond.instanceMethod y ∈ lw_all) (hsel : Cond.selects y.cls y y ∈ lw_all) (hini : Cond.initialized y.cls ∈ lw_all) (hcode : Cond.codeWith y bytes maxL ret hh ∈ lw_all) (hn : As.length = n) (hst0 : st0 = As.reverse ++ .ref b :: rest) (hst : (rest.map fun v => v.category).sum ≤ 8) (hF : rm.frames + 1 ≤ F) (hL : 8 + (maxL + 11) + rm.locals ≤ L) (hc : rm.cells ≤ bc) (hs : rm.slots ≤ bs)
    (kk : ∀ v M', K' v M' → V l G X (bc - rm.cells) (bs - rm.slots) M' (pc + 3) lv (v.toList ++ rest)) (kx : ∀ q E M', KX' q E M' → VX l G X (bc - rm.cells) (bs - rm.slots) M' pc lv q E) : V l G X bc bs M pc lv st0 := by
  obtain ⟨p, e, R, s, m, args, below, meth, c, Q, nl⟩ := X
  obtain ⟨hx, hb, hml, hnl, hown, hts, hK, hlk, hF9, hL9, htr⟩ := h
  intro g1 g2 H locs la hR hS hl
  subst hst0
  refine r_run g1 g2 hc hs hS hl (vx_runVX (nL := nl) (n := n) ⟨hx, hb, by rw [hml, hnl], hown, hts⟩ hM (vx_cwVW n hts (lw_VW (C := y.cls) hlink hin hsel hini hcode) rfl rfl rfl ⟨rfl, hyo⟩ ⟨Nat.le_trans hF hF9, Nat.le_trans hL hL9⟩) ⟨gP.blind, by rw [hy]; exact gRecv hR hK hkd hcl, gP.at hR hS hK⟩ rfl hn hl.1 rfl (by show 2 * 0 + _ ≤ 8; omega) d ⟨by omega, by omega⟩) kk kx
theorem r_callS (h : hX l G X cc nL own F L) (hM : gMet l G y (ws_ y bytes maxL ret) rm M As K' KX') (hyo : yOk y n) (d : decode cc pc = .ok (.invokestatic index, 3)) (hlink : Cond.methodLink own index y ∈ lw_all) (hstat : Cond.static y ∈ lw_all) (hini : Cond.initialized y.cls ∈ lw_all) (hcode : Cond.code y bytes maxL ret ∈ lw_all) (hn : As.length = n) (hst0 : st0 = As.reverse ++ rest) (hst : (rest.map fun v => v.category).sum ≤ 8) (hF : rm.frames + 1 ≤ F) (hL : 8 + (maxL + 11) + rm.locals ≤ L) (hc : rm.cells ≤ bc) (hs : rm.slots ≤ bs)
    (kk : ∀ v M', K' v M' → V l G X (bc - rm.cells) (bs - rm.slots) M' (pc + 3) lv (v.toList ++ rest)) (kx : ∀ q E M', KX' q E M' → VX l G X (bc - rm.cells) (bs - rm.slots) M' pc lv q E) : V l G X bc bs M pc lv st0 := by
  obtain ⟨p, e, R, s, m, args, below, meth, c, Q, nl⟩ := X
  obtain ⟨hx, hb, hml, hnl, hown, hts, hK, hlk, hF9, hL9, htr⟩ := h
  intro g1 g2 H locs la hR hS hl
  subst hst0
  refine r_run g1 g2 hc hs hS hl (vx_runS (nL := nl) (n := n) ⟨hx, hb, by rw [hml, hnl], hown, hts⟩ hM (va_cwS n hts (lw_S hlink hstat hini hcode) rfl rfl rfl hyo ⟨Nat.le_trans hF hF9, Nat.le_trans hL hL9⟩) ⟨gP.blind, gP.at hR hS hK⟩ rfl hn hl.1 rfl (by show 2 * 0 + _ ≤ 8; omega) d ⟨by omega, by omega⟩) kk kx
theorem r_callSH (h : hX l G X cc nL own F L) (hM : gMet l G y (wsW_ y bytes maxL ret hh) rm M As K' KX') (hyo : yOk y n) (d : decode cc pc = .ok (.invokestatic index, 3)) (hlink : Cond.methodLink own index y ∈ lw_all) (hstat : Cond.static y ∈ lw_all) (hini : Cond.initialized y.cls ∈ lw_all) (hcode : Cond.codeWith y bytes maxL ret hh ∈ lw_all) (hn : As.length = n) (hst0 : st0 = As.reverse ++ rest) (hst : (rest.map fun v => v.category).sum ≤ 8) (hF : rm.frames + 1 ≤ F) (hL : 8 + (maxL + 11) + rm.locals ≤ L) (hc : rm.cells ≤ bc) (hs : rm.slots ≤ bs)
    (kk : ∀ v M', K' v M' → V l G X (bc - rm.cells) (bs - rm.slots) M' (pc + 3) lv (v.toList ++ rest)) (kx : ∀ q E M', KX' q E M' → VX l G X (bc - rm.cells) (bs - rm.slots) M' pc lv q E) : V l G X bc bs M pc lv st0 := by
  obtain ⟨p, e, R, s, m, args, below, meth, c, Q, nl⟩ := X
  obtain ⟨hx, hb, hml, hnl, hown, hts, hK, hlk, hF9, hL9, htr⟩ := h
  intro g1 g2 H locs la hR hS hl
  subst hst0
  refine r_run g1 g2 hc hs hS hl (vx_runSX (nL := nl) (n := n) ⟨hx, hb, by rw [hml, hnl], hown, hts⟩ hM (vx_cwSW n hts (lw_SW hlink hstat hini hcode) rfl rfl rfl hyo ⟨Nat.le_trans hF hF9, Nat.le_trans hL hL9⟩) ⟨gP.blind, gP.at hR hS hK⟩ rfl hn hl.1 rfl (by show 2 * 0 + _ ≤ 8; omega) d ⟨by omega, by omega⟩) kk kx
theorem r_callI (h : hX l G X cc nL own F L) (hM : gMet l G y (ws_ y bytes maxL none) rm M (.ref b :: As) K' KX') (hyo : yOk y n) (hyi : y.name = "<init>") (d : decode cc pc = .ok (.invokespecial index, 3)) (hlink : Cond.methodLink own index y ∈ lw_all) (hin : Cond.instanceMethod y ∈ lw_all) (hini : Cond.initialized y.cls ∈ lw_all) (hcode : Cond.code y bytes maxL none ∈ lw_all) (hn : As.length = n) (hst0 : st0 = As.reverse ++ .ref b :: rest) (hst : (rest.map fun v => v.category).sum ≤ 8) (hF : rm.frames + 1 ≤ F) (hL : 8 + (maxL + 11) + rm.locals ≤ L) (hc : rm.cells ≤ bc) (hs : rm.slots ≤ bs)
    (kk : ∀ v M', K' v M' → V l G X (bc - rm.cells) (bs - rm.slots) M' (pc + 3) lv (v.toList ++ rest)) (kx : ∀ q E M', KX' q E M' → VX l G X (bc - rm.cells) (bs - rm.slots) M' pc lv q E) : V l G X bc bs M pc lv st0 := by
  obtain ⟨p, e, R, s, m, args, below, meth, c, Q, nl⟩ := X
  obtain ⟨hx, hb, hml, hnl, hown, hts, hK, hlk, hF9, hL9, htr⟩ := h
  intro g1 g2 H locs la hR hS hl
  subst hst0
  refine r_run g1 g2 hc hs hS hl (vx_runI (nL := nl) (n := n) ⟨hx, hb, by rw [hml, hnl], hown, hts⟩ hM (cwI n hts (lw_meth hcode) rfl rfl rfl (hts _ hini) (hts _ hlink) (hts _ hin) hyi hyo ⟨Nat.le_trans hF hF9, Nat.le_trans hL hL9⟩) ⟨gP.blind, gP.at hR hS hK⟩ rfl hn hl.1 rfl (by show 2 * 0 + _ ≤ 8; omega) d ⟨by omega, by omega⟩) kk kx
/-- a private constructor of a nest mate -/
theorem r_callIN (h : hX l G X cc nL own F L) (hM : gMet l G y (ws_ y bytes maxL none) rm M (.ref b :: As) K' KX') (hyo : yOk y n) (hyi : y.name = "<init>") {host : String} (d : decode cc pc = .ok (.invokespecial index, 3)) (hlink : (own, index, y, host) ∈ gNM) (hin : Cond.instanceMethod y ∈ lw_all) (hini : Cond.initialized y.cls ∈ lw_all) (hcode : Cond.code y bytes maxL none ∈ lw_all) (hn : As.length = n) (hst0 : st0 = As.reverse ++ .ref b :: rest) (hst : (rest.map fun v => v.category).sum ≤ 8) (hF : rm.frames + 1 ≤ F) (hL : 8 + (maxL + 11) + rm.locals ≤ L) (hc : rm.cells ≤ bc) (hs : rm.slots ≤ bs)
    (kk : ∀ v M', K' v M' → V l G X (bc - rm.cells) (bs - rm.slots) M' (pc + 3) lv (v.toList ++ rest)) (kx : ∀ q E M', KX' q E M' → VX l G X (bc - rm.cells) (bs - rm.slots) M' pc lv q E) : V l G X bc bs M pc lv st0 := by
  obtain ⟨p, e, R, s, m, args, below, meth, c, Q, nl⟩ := X
  obtain ⟨hx, hb, hml, hnl, hown, hts, hK, hlk, hF9, hL9, htr⟩ := h
  intro g1 g2 H locs la hR hS hl
  subst hst0
  refine r_run g1 g2 hc hs hS hl (vx_runIN (nL := nl) (n := n) ⟨hx, hb, by rw [hml, hnl], hown, hts⟩ hM ⟨va_cnB n hts (lw_meth hcode) rfl rfl rfl (hK.2.2.2.1 _ hlink) (hts _ hini) hyo ⟨Nat.le_trans hF hF9, Nat.le_trans hL hL9⟩, hyi, hts _ hin⟩ ⟨gP.blind, gP.at hR hS hK⟩ rfl hn hl.1 rfl (by show 2 * 0 + _ ≤ 8; omega) d ⟨by omega, by omega⟩) kk kx
/-- a private method of a nest mate -/
theorem r_callVN (h : hX l G X cc nL own F L) (hM : gMet l G y (ws_ y bytes maxL ret) rm M (.ref b :: As) K' KX') (ci : Nat) {q : vw_C} (hcl : gCl[ci]? = some q) (hkd : kd M b = some (.inl ci)) (hy : y.cls = q.1) (hyo : yOk y n) {host : String} (d : decode cc pc = .ok (.invokevirtual index, 3)) (hlink : (own, index, y, host) ∈ gNM) (hin : Cond.instanceMethod y ∈ lw_all) (hsel : Cond.selects y.cls y y ∈ lw_all) (hini : Cond.initialized y.cls ∈ lw_all) (hcode : Cond.code y bytes maxL ret ∈ lw_all) (hn : As.length = n) (hst0 : st0 = As.reverse ++ .ref b :: rest) (hst : (rest.map fun v => v.category).sum ≤ 8) (hF : rm.frames + 1 ≤ F) (hL : 8 + (maxL + 11) + rm.locals ≤ L) (hc : rm.cells ≤ bc) (hs : rm.slots ≤ bs)
    (kk : ∀ v M', K' v M' → V l G X (bc - rm.cells) (bs - rm.slots) M' (pc + 3) lv (v.toList ++ rest)) (kx : ∀ q E M', KX' q E M' → VX l G X (bc - rm.cells) (bs - rm.slots) M' pc lv q E) : V l G X bc bs M pc lv st0 := by
  obtain ⟨p, e, R, s, m, args, below, meth, c, Q, nl⟩ := X
  obtain ⟨hx, hb, hml, hnl, hown, hts, hK, hlk, hF9, hL9, htr⟩ := h
  intro g1 g2 H locs la hR hS hl
  subst hst0
  refine r_run g1 g2 hc hs hS hl (vx_runVN (nL := nl) (n := n) (C := y.cls) ⟨hx, hb, by rw [hml, hnl], hown, hts⟩ hM ⟨va_cnB n hts (lw_meth hcode) rfl rfl rfl (hK.2.2.2.1 _ hlink) (hts _ hini) hyo ⟨Nat.le_trans hF hF9, Nat.le_trans hL hL9⟩, hts _ hin, hts _ hsel⟩ ⟨gP.blind, by rw [hy]; exact gRecv hR hK hkd hcl, gP.at hR hS hK⟩ rfl hn hl.1 rfl (by show 2 * 0 + _ ≤ 8; omega) d ⟨by omega, by omega⟩) kk kx
theorem kI_go {K : Int32 → gM → Prop} (kk : ∀ x M', K x M' → V l G X bc bs M' pc lv (.int x :: rest)) : ∀ v M', kI K v M' → V l G X bc bs M' pc lv (v.toList ++ rest) := fun v M' ⟨x, hv, hk⟩ => by subst hv; exact kk x M' hk
theorem kA_go {K : Nat → gM → Prop} (kk : ∀ x M', K x M' → V l G X bc bs M' pc lv (.ref x :: rest)) : ∀ v M', kA K v M' → V l G X bc bs M' pc lv (v.toList ++ rest) := fun v M' ⟨x, hv, hk⟩ => by subst hv; exact kk x M' hk
theorem kV_go {K : gM → Prop} (kk : ∀ M', K M' → V l G X bc bs M' pc lv rest) : ∀ v M', kV K v M' → V l G X bc bs M' pc lv (v.toList ++ rest) := fun v M' ⟨hv, hk⟩ => by subst hv; exact kk M' hk
theorem kN_go : ∀ q E M', kN q E M' → VX l G X bc bs M' pc lv q E := fun _ _ _ h => h.elim
end CALLS5
