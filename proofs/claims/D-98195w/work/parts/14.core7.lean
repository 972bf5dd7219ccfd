/-! CORE 7: calls of inherited and overridden methods, through an interface; exceptions made and kept; texts' length and charAt -/
section CALLS7
variable {l : Launch} {G : gG} {X : gX} {cc : ByteArray} {nL : Nat} {own : String} {F L bc bs : Nat} {M : gM} {pc : Nat} {lv : List (Nat × Value)} {rest st0 : List Value} {K' : Option Value → gM → Prop} {KX' : Addr → String → gM → Prop} {x y : MethodName} {bytes : ByteArray} {maxL index n b count : Nat} {ret : Option FieldType} {rm : Room} {As : List Value}
/-- x is named, y found by the receiver's class C, and y is x's own method of the class above -/
theorem r_callU (h : hX l G X cc nL own F L) (hM : gMet l G y (ws_ y bytes maxL ret) rm M (.ref b :: As) K' KX') (ci : Nat) {q : vw_C} (hcl : gCl[ci]? = some q) (hkd : kd M b = some (.inl ci)) (hyx : y = ⟨x.cls, x.name, x.desc⟩) (hyo : yOk x n) (d : decode cc pc = .ok (.invokevirtual index, 3)) (hlink : Cond.methodLink own index x ∈ lw_all) (hsame : Cond.sameMethod x.cls x.cls x.name x.desc ∈ lw_all) (hsel : Cond.selects q.1 x y ∈ lw_all) (hin : Cond.instanceMethod y ∈ lw_all) (hini : Cond.initialized y.cls ∈ lw_all) (hcode : Cond.code y bytes maxL ret ∈ lw_all) (hn : As.length = n) (hst0 : st0 = As.reverse ++ .ref b :: rest) (hst : (rest.map fun v => v.category).sum ≤ 8) (hF : rm.frames + 1 ≤ F) (hL : 8 + (maxL + 11) + rm.locals ≤ L) (hc : rm.cells ≤ bc) (hs : rm.slots ≤ bs)
    (kk : ∀ v M', K' v M' → V l G X (bc - rm.cells) (bs - rm.slots) M' (pc + 3) lv (v.toList ++ rest)) (kx : ∀ q E M', KX' q E M' → VX l G X (bc - rm.cells) (bs - rm.slots) M' pc lv q E) : V l G X bc bs M pc lv st0 := by
  obtain ⟨p, e, R, s, m, args, below, meth, c, Q, nl⟩ := X
  obtain ⟨hx, hb, hml, hnl, hown, hts, hK, hlk, hF9, hL9, htr⟩ := h
  intro g1 g2 H locs la hR hS hl
  subst hst0
  have hg : GoodIn lw_all (va_wsU own index q.1 x.cls x y (ws_ y bytes maxL ret)) := by
    refine lw_app ?_ (lw_meth hcode)
    intro w hw
    simp only [List.mem_cons, List.not_mem_nil, or_false] at hw
    rcases hw with e | e | e | e | e <;> rw [e] <;> assumption
  refine r_run g1 g2 hc hs hS hl (vx_runU (nL := nl) (n := n) (C := q.1) (owner := x.cls) ⟨hx, hb, by rw [hml, hnl], hown, hts⟩ hM (va_cwU n hts hg rfl rfl rfl hyx hyo ⟨Nat.le_trans hF hF9, Nat.le_trans hL hL9⟩) ⟨gP.blind, gRecv hR hK hkd hcl, gP.at hR hS hK⟩ rfl hn hl.1 rfl (by show 2 * 0 + _ ≤ 8; omega) d ⟨by omega, by omega⟩) kk kx
/-- .. y overrides it -/
theorem r_callO {b0 : ByteArray} {mx0 : Nat} {r0 : Option FieldType} (h : hX l G X cc nL own F L) (hM : gMet l G y (ws_ y bytes maxL ret) rm M (.ref b :: As) K' KX') (ci : Nat) {q : vw_C} (hcl : gCl[ci]? = some q) (hkd : kd M b = some (.inl ci)) (hyo : yOk x n) (d : decode cc pc = .ok (.invokevirtual index, 3)) (hlink : Cond.methodLink own index x ∈ lw_all) (hsame : Cond.sameMethod x.cls x.cls x.name x.desc ∈ lw_all) (hinx : Cond.instanceMethod ⟨x.cls, x.name, x.desc⟩ ∈ lw_all) (hx0 : Cond.code ⟨x.cls, x.name, x.desc⟩ b0 mx0 r0 ∈ lw_all) (hsel : Cond.selects q.1 x y ∈ lw_all) (hin : Cond.instanceMethod y ∈ lw_all) (hini : Cond.initialized y.cls ∈ lw_all) (hcode : Cond.code y bytes maxL ret ∈ lw_all) (hn : As.length = n) (hst0 : st0 = As.reverse ++ .ref b :: rest) (hst : (rest.map fun v => v.category).sum ≤ 8) (hF : rm.frames + 1 ≤ F) (hL : 8 + (maxL + 11) + rm.locals ≤ L) (hc : rm.cells ≤ bc) (hs : rm.slots ≤ bs)
    (kk : ∀ v M', K' v M' → V l G X (bc - rm.cells) (bs - rm.slots) M' (pc + 3) lv (v.toList ++ rest)) (kx : ∀ q E M', KX' q E M' → VX l G X (bc - rm.cells) (bs - rm.slots) M' pc lv q E) : V l G X bc bs M pc lv st0 := by
  obtain ⟨p, e, R, s, m, args, below, meth, c, Q, nl⟩ := X
  obtain ⟨hx, hb, hml, hnl, hown, hts, hK, hlk, hF9, hL9, htr⟩ := h
  intro g1 g2 H locs la hR hS hl
  subst hst0
  have hg : GoodIn lw_all (va_wsO own index q.1 x.cls x y (ws_ y bytes maxL ret)) := by
    refine lw_app ?_ (lw_meth hcode)
    intro w hw
    simp only [List.mem_cons, List.not_mem_nil, or_false] at hw
    rcases hw with e | e | e | e | e | e <;> rw [e] <;> assumption
  refine r_run g1 g2 hc hs hS hl (vx_runU (nL := nl) (n := n) (C := q.1) (owner := x.cls) ⟨hx, hb, by rw [hml, hnl], hown, hts⟩ hM (va_cwO n hts hg rfl rfl rfl hx0 hyo ⟨Nat.le_trans hF hF9, Nat.le_trans hL hL9⟩) ⟨gP.blind, gRecv hR hK hkd hcl, gP.at hR hS hK⟩ rfl hn hl.1 rfl (by show 2 * 0 + _ ≤ 8; omega) d ⟨by omega, by omega⟩) kk kx
/-- through an interface -/
theorem r_callF (h : hX l G X cc nL own F L) (hM : gMet l G y (ws_ y bytes maxL ret) rm M (.ref b :: As) K' KX') (ci : Nat) {q : vw_C} (hcl : gCl[ci]? = some q) (hkd : kd M b = some (.inl ci)) (hyo : yOk x n) (hif : (q.1, x, y) ∈ gIf) (d : decode cc pc = .ok (.invokeinterface index count, 5)) (hlink : Cond.methodLink own index x ∈ lw_all) (hsel : Cond.selects q.1 x y ∈ lw_all) (hin : Cond.instanceMethod y ∈ lw_all) (hini : Cond.initialized y.cls ∈ lw_all) (hcode : Cond.code y bytes maxL ret ∈ lw_all) (hn : As.length = n) (hst0 : st0 = As.reverse ++ .ref b :: rest) (hst : (rest.map fun v => v.category).sum ≤ 8) (hF : rm.frames + 1 ≤ F) (hL : 8 + (maxL + 11) + rm.locals ≤ L) (hc : rm.cells ≤ bc) (hs : rm.slots ≤ bs)
    (kk : ∀ v M', K' v M' → V l G X (bc - rm.cells) (bs - rm.slots) M' (pc + 5) lv (v.toList ++ rest)) (kx : ∀ q E M', KX' q E M' → VX l G X (bc - rm.cells) (bs - rm.slots) M' pc lv q E) : V l G X bc bs M pc lv st0 := by
  obtain ⟨p, e, R, s, m, args, below, meth, c, Q, nl⟩ := X
  obtain ⟨hx, hb, hml, hnl, hown, hts, hK, hlk, hF9, hL9, htr⟩ := h
  intro g1 g2 H locs la hR hS hl
  subst hst0
  have hg : GoodIn lw_all (va_wsF own index q.1 x y (ws_ y bytes maxL ret)) := by
    refine lw_app ?_ (lw_meth hcode)
    intro w hw
    simp only [List.mem_cons, List.not_mem_nil, or_false] at hw
    rcases hw with e | e | e | e <;> rw [e] <;> assumption
  refine r_run5 g1 g2 hc hs hS hl (vx_runF (nL := nl) (n := n) (C := q.1) (hK.1 ci q hcl).2 ⟨hx, hb, by rw [hml, hnl], hown, hts⟩ hM (va_cwF n hts hg rfl rfl rfl (hK.2.2.2.2.2.2.2.1 _ hif) hyo ⟨Nat.le_trans hF hF9, Nat.le_trans hL hL9⟩) ⟨gP.blind, gRecv hR hK hkd hcl, gP.at hR hS hK⟩ rfl hn hl.1 rfl (by show 2 * 0 + _ ≤ 8; omega) d ⟨by omega, by omega⟩) kk kx
theorem kI_go5 {K : Int32 → gM → Prop} (kk : ∀ x M', K x M' → V l G X bc bs M' (pc + 5) lv (.int x :: rest)) : ∀ v M', kI K v M' → V l G X bc bs M' (pc + 5) lv (v.toList ++ rest) := fun v M' ⟨x, hv, hk⟩ => by subst hv; exact kk x M' hk
end CALLS7
section STR7
variable {l : Launch} {G : gG} {X : gX} {cc : ByteArray} {nL : Nat} {own : String} {F L bc bs : Nat} {M : gM} {pc : Nat} {lv lv' : List (Nat × Value)} {rest : List Value} {a : Nat}
/-- a text's length, a text's sign -/
def f_len (w : Nat) (M : gM) (K : Int32 → gM → Prop) : Prop := ∃ i, kd M w = some (.inr (10, i)) ∧ K (nI (gSl.getD i 0)) M
def f_charAt (w : Nat) (k : Int32) (M : gM) (K : Int32 → gM → Prop) : Prop := ∃ i, kd M w = some (.inr (10, i)) ∧ vp_in k (gSl.getD i 0) ∧ K ((gSb.getD i []).getD (ix k) 0) M
theorem gText {i w : Nat} {H : Heap} (hR : Rp G M H) (hw : kd M w = some (.inr (10, i))) : w = gSt G i ∧ i < gSN := by
  have h := hR.2.2.1 w
  unfold gAt at h
  rw [hw] at h
  exact h
theorem r_sget (h : hX l G X cc nL own F L) {w i index : Nat} (n d9 : String) (v : Value) (hnd : (n = "coder" ∧ d9 = "B" ∧ v = .int 0) ∨ (n = "value" ∧ d9 = "[B" ∧ v = .ref (gSv G i))) (hw : kd M w = some (.inr (10, i))) (hlink : Cond.fieldLink own index "java/lang/String" n d9 ∈ lw_all) (d : decode cc pc = .ok (.getfield index, 3)) (kk : V l G X bc bs M (pc + 3) lv (v :: rest)) : V l G X bc bs M pc lv (.ref w :: rest) := by
  obtain ⟨p, e, R, s, m, args, below, meth, c, Q, nl⟩ := X
  obtain ⟨hx, hb, hml, hnl, hown, hts, hK, hlk, hF, hL, htr⟩ := h
  intro g1 g2 H locs la hR hS hl
  obtain ⟨rfl, hi⟩ := gText hR hw
  have hE := hK.2.2.2.2.2.2.2.2.2.1.1 i hi
  rcases hnd with ⟨rfl, rfl, rfl⟩ | ⟨rfl, rfl, rfl⟩
  · exact vk_getf hx hb hE.2.1 hS hown (hts _ hlink) (fun _ h => h) d (kk g1 g2 H locs la hR hS hl)
  · exact vk_getf hx hb hE.2.2.1 hS hown (hts _ hlink) (fun _ h => h) d (kk g1 g2 H locs la hR hS hl)
theorem r_slenB (h : hX l G X cc nL own F L) {w i : Nat} (hw : kd M w = some (.inr (10, i))) (d : decode cc pc = .ok (.arraylength, 1)) (kk : V l G X bc bs M (pc + 1) lv (.int (nI (gSl.getD i 0)) :: rest)) : V l G X bc bs M pc lv (.ref (gSv G i) :: rest) := by
  obtain ⟨p, e, R, s, m, args, below, meth, c, Q, nl⟩ := X
  obtain ⟨hx, hb, hml, hnl, hown, hts, hK, hlk, hF, hL, htr⟩ := h
  intro g1 g2 H locs la hR hS hl
  obtain ⟨rfl, hi⟩ := gText hR hw
  obtain ⟨cell, h1, h2, h3, h4, h5, h6, h7⟩ := (hK.2.2.2.2.2.2.2.2.2.1.1 i hi).2.2.2
  exact W.alen (n := nI (gSl.getD i 0)) hx hb (by rw [hS.2.1 _ (Array.getElem?_eq_some_iff.mp h1).1 h7]; exact h1) h2 h5 rfl rfl d (kk g1 g2 H locs la hR hS hl)
theorem r_sbald (h : hX l G X cc nL own F L) {w i : Nat} {k : Int32} (hw : kd M w = some (.inr (10, i))) (hk : vp_in k (gSl.getD i 0)) (d : decode cc pc = .ok (.baload, 1)) (kk : V l G X bc bs M (pc + 1) lv (.int ((gSb.getD i []).getD (ix k) 0) :: rest)) : V l G X bc bs M pc lv (.int k :: .ref (gSv G i) :: rest) := by
  obtain ⟨p, e, R, s, m, args, below, meth, c, Q, nl⟩ := X
  obtain ⟨hx, hb, hml, hnl, hown, hts, hK, hlk, hF, hL, htr⟩ := h
  intro g1 g2 H locs la hR hS hl
  obtain ⟨rfl, hi⟩ := gText hR hw
  obtain ⟨cell, h1, h2, h3, h4, h5, h6, h7⟩ := (hK.2.2.2.2.2.2.2.2.2.1.1 i hi).2.2.2
  refine W.bald (v := .int ((gSb.getD i []).getD (ix k) 0)) hx hb (by rw [hS.2.1 _ (Array.getElem?_eq_some_iff.mp h1).1 h7]; exact h1) h2 h3 (fun q => ?_) (h6 _ (vp_lt hk)) rfl rfl d (kk g1 g2 H locs la hR hS hl)
  rcases q with q | q
  · exact hk (Or.inl q)
  · exact hk (Or.inr (Nat.le_trans h4 q))
theorem r_getsC (h : hX l G X cc nL own F L) {index : Nat} (hlink : Cond.fieldLink own index "java/lang/String" "COMPACT_STRINGS" "Z" ∈ lw_all) (d : decode cc pc = .ok (.getstatic index, 3)) (kk : V l G X bc bs M (pc + 3) lv (.int 1 :: rest)) : V l G X bc bs M pc lv rest := by
  obtain ⟨p, e, R, s, m, args, below, meth, c, Q, nl⟩ := X
  obtain ⟨hx, hb, hml, hnl, hown, hts, hK, hlk, hF, hL, htr⟩ := h
  intro g1 g2 H locs la hR hS hl
  exact va_gets hx hb hK.2.2.2.2.2.2.2.2.2.2.2.2.1 hS hown (hts _ hlink) (fun _ h9 => h9) d (kk g1 g2 H locs la hR hS hl)
theorem r_getsF (h : hX l G X cc nL own F L) {index : Nat} (hlink : Cond.fieldLink own index "jdk/internal/util/Preconditions" "SIOOBE_FORMATTER" "Ljava/util/function/BiFunction;" ∈ lw_all) (d : decode cc pc = .ok (.getstatic index, 3)) (kk : ∀ o : Option Nat, V l G X bc bs M (pc + 3) lv (va_rf o :: rest)) : V l G X bc bs M pc lv rest := by
  obtain ⟨p, e, R, s, m, args, below, meth, c, Q, nl⟩ := X
  obtain ⟨hx, hb, hml, hnl, hown, hts, hK, hlk, hF, hL, htr⟩ := h
  intro g1 g2 H locs la hR hS hl
  rcases hK.2.2.2.2.2.2.2.2.2.2.2.2.2.2.2 with hz | ⟨t, hz⟩
  · exact va_gets hx hb hz hS hown (hts _ hlink) (fun _ h9 => h9) d (kk none g1 g2 H locs la hR hS hl)
  · exact va_gets hx hb hz hS hown (hts _ hlink) (fun _ h9 => h9) d (kk (some t) g1 g2 H locs la hR hS hl)
theorem r_callVS {K' : Option Value → gM → Prop} {KX' : Addr → String → gM → Prop} {y : MethodName} {bytes : ByteArray} {maxL index n w i : Nat} {ret : Option FieldType} {rm : Room} {As st0 : List Value} (h : hX l G X cc nL own F L) (hM : gMet l G y (ws_ y bytes maxL ret) rm M (.ref w :: As) K' KX') (hw : kd M w = some (.inr (10, i))) (hy : y.cls = "java/lang/String") (hyo : yOk y n) (d : decode cc pc = .ok (.invokevirtual index, 3)) (hlink : Cond.methodLink own index y ∈ lw_all) (hin : Cond.instanceMethod y ∈ lw_all) (hsel : Cond.selects y.cls y y ∈ lw_all) (hini : Cond.initialized y.cls ∈ lw_all) (hcode : Cond.code y bytes maxL ret ∈ lw_all) (hn : As.length = n) (hst0 : st0 = As.reverse ++ .ref w :: rest) (hst : (rest.map fun v => v.category).sum ≤ 8) (hF : rm.frames + 1 ≤ F) (hL : 8 + (maxL + 11) + rm.locals ≤ L) (hc : rm.cells ≤ bc) (hs : rm.slots ≤ bs)
    (kk : ∀ v M', K' v M' → V l G X (bc - rm.cells) (bs - rm.slots) M' (pc + 3) lv (v.toList ++ rest)) (kx : ∀ q E M', KX' q E M' → VX l G X (bc - rm.cells) (bs - rm.slots) M' pc lv q E) : V l G X bc bs M pc lv st0 := by
  obtain ⟨p, e, R, s, m, args, below, meth, c, Q, nl⟩ := X
  obtain ⟨hx, hb, hml, hnl, hown, hts, hK, hlk, hF9, hL9, htr⟩ := h
  intro g1 g2 H locs la hR hS hl
  subst hst0
  have hg := gText hR hw
  have hrv : ∃ cell : Cell, H[w]? = some cell ∧ cell.vm.isStatics = false ∧ s.vm.findClass y.cls = some cell.cls := by
    rw [hy, hg.1]
    exact vk_recv hK.2.2.2.2.2.2.2.2.2.1 hg.2 hS
  refine r_run g1 g2 hc hs hS hl (vx_runV (nL := nl) (n := n) ⟨hx, hb, by rw [hml, hnl], hown, hts⟩ hM (cwV n hts (lw_V (C := y.cls) hlink hin hsel hini hcode) rfl rfl rfl ⟨rfl, hyo⟩ ⟨Nat.le_trans hF hF9, Nat.le_trans hL hL9⟩) ⟨gP.blind, hrv, gP.at hR hS hK⟩ rfl hn hl.1 rfl (by show 2 * 0 + _ ≤ 8; omega) d ⟨by omega, by omega⟩) kk kx
theorem r_i2c (h : hX l G X cc nL own F L) {x : Int32} (d : decode cc pc = .ok (.i2c, 1)) (kk : V l G X bc bs M (pc + 1) lv (.int (x.toUInt32 % 65536).toInt32 :: rest)) : V l G X bc bs M pc lv (.int x :: rest) := by
  obtain ⟨p, e, R, s, m, args, below, meth, c, Q, nl⟩ := X
  obtain ⟨hx, hb, hml, hnl, hown, hts, hK, hlk, hF, hL, htr⟩ := h
  exact fun g1 g2 H locs la hR hS hl => lv_i2c hx hb d rfl (kk g1 g2 H locs la hR hS hl)
/-- the end of a method that answers a small int type -/
theorem r_nreturn {ty : FieldType} {tb : List (Nat × Nat × Nat × Nat)} {ini : String} {K : Option Value → gM → Prop} {KX : Addr → String → gM → Prop} (h : hX l G X cc nL own F L) (hq : hQ G X (some ty) tb ini K KX) {x : Int32} (d : decode cc pc = .ok (.ireturn, 1)) (hn : narrow ty (.int x) = .int x) (hk : K (some (.int x)) M) : V l G X bc bs M pc lv [.int x] := by
  obtain ⟨p, e, R, s, m, args, below, meth, c, Q, nl⟩ := X
  obtain ⟨hx, hb, hml, hnl, hown, hts, hK, hlk, hF, hL, htr⟩ := h
  obtain ⟨rfl, hret, -, -⟩ := hq
  intro g1 g2 H locs la hR hS hl
  refine W.widen (Nat.sub_le _ _) (Nat.sub_le _ _) (vx_ret ?_)
  exact W.zret hx hb hret hn (fun t ht hW => ⟨_, M, rfl, hk, by rw [ht]; exact hR, hS.F ht⟩) hS.2.2 d hlk
theorem m_J3_coder {l : Launch} (hl : l.stackTraces = false) {G : gG} {w i : Nat} {M : gM} {K : Int32 → gM → Prop} (hw : kd M w = some (.inr (10, i))) (hf : K 0 M) : gMet l G yJ3_coder (ws_ yJ3_coder cJ3_coder 1 (some .byte)) ({ frames := 0, cells := 0, slots := 0, locals := 0 }) M [.ref w] (kI K) kN := by
  refine gm_of hl (ret := some .byte) rfl (Nat.le_of_ble_eq_true rfl) (fun X h hq => ?_)
  have h : hX l G X cJ3_coder 1 "java/lang/String" 0 0 := h
  show V l G X 0 0 M 0 [(0, .ref w)] []
  refine r_getsC h q871 dJ3_coder_0 ?_
  refine r_if_eq (tgt := 13) h dJ3_coder_3 (by decide) (fun c => absurd c (by decide)) (fun _ => ?_)
  refine r_aload_n h 0 dJ3_coder_6 rfl rfl ?_
  refine r_sget h "coder" "B" (.int 0) (Or.inl ⟨rfl, rfl, rfl⟩) hw q2307 dJ3_coder_7 ?_
  refine r_goto (tgt := 14) h dJ3_coder_10 (by decide) ?_
  exact r_nreturn h hq dJ3_coder_14 rfl ⟨_, rfl, hf⟩
theorem m_J3_isLatin1 {l : Launch} (hl : l.stackTraces = false) {G : gG} {w i : Nat} {M : gM} {K : Int32 → gM → Prop} (hw : kd M w = some (.inr (10, i))) (hf : K 1 M) : gMet l G yJ3_isLatin1 (ws_ yJ3_isLatin1 cJ3_isLatin1 1 (some .boolean)) ({ frames := 0, cells := 0, slots := 0, locals := 0 }) M [.ref w] (kI K) kN := by
  refine gm_of hl (ret := some .boolean) rfl (Nat.le_of_ble_eq_true rfl) (fun X h hq => ?_)
  have h : hX l G X cJ3_isLatin1 1 "java/lang/String" 0 0 := h
  show V l G X 0 0 M 0 [(0, .ref w)] []
  refine r_getsC h q871 dJ3_isLatin1_0 ?_
  refine r_if_eq (tgt := 17) h dJ3_isLatin1_3 (by decide) (fun c => absurd c (by decide)) (fun _ => ?_)
  refine r_aload_n h 0 dJ3_isLatin1_6 rfl rfl ?_
  refine r_sget h "coder" "B" (.int 0) (Or.inl ⟨rfl, rfl, rfl⟩) hw q2307 dJ3_isLatin1_7 ?_
  refine r_if_ne (tgt := 17) h dJ3_isLatin1_10 (by decide) (fun c => absurd rfl c) (fun _ => ?_)
  refine r_iconst (v := 1) h dJ3_isLatin1_13 (by decide) ?_
  refine r_goto (tgt := 18) h dJ3_isLatin1_14 (by decide) ?_
  exact r_zreturn h hq dJ3_isLatin1_18 (by decide) ⟨_, rfl, hf⟩
theorem m_J5_checkIndex {l : Launch} (hl : l.stackTraces = false) {G : gG} {k n : Int32} {o : Option Nat} {M : gM} {K : Int32 → gM → Prop} (h0 : ¬ k < 0) (h1 : k < n) (hf : K k M) : gMet l G yJ5_checkIndex (ws_ yJ5_checkIndex cJ5_checkIndex 3 (some .int)) ({ frames := 0, cells := 0, slots := 0, locals := 0 }) M [.int k, .int n, va_rf o] (kI K) kN := by
  refine gm_of hl (ret := some .int) rfl (by cases o <;> exact Nat.le_of_ble_eq_true rfl) (fun X h hq => ?_)
  have h : hX l G X cJ5_checkIndex 3 "jdk/internal/util/Preconditions" 0 0 := h
  have e0 : lv_args 0 [.int k, .int n, va_rf o] = [(0, .int k), (1, .int n), (2, va_rf o)] := by cases o <;> rfl
  rw [e0]
  refine r_iload_n h 0 dJ5_checkIndex_0 rfl rfl ?_
  refine r_if_lt (tgt := 9) h dJ5_checkIndex_1 (by decide) (fun c => absurd c h0) (fun _ => ?_)
  refine r_iload_n h 0 dJ5_checkIndex_4 rfl rfl ?_
  refine r_iload_n h 1 dJ5_checkIndex_5 rfl rfl ?_
  refine r_icmp_lt (tgt := 16) h dJ5_checkIndex_6 (by decide) (fun _ => ?_) (fun c => absurd h1 c)
  refine r_iload_n h 0 dJ5_checkIndex_16 rfl rfl ?_
  exact r_ireturn h hq dJ5_checkIndex_17 ⟨_, rfl, hf⟩
theorem m_J3_checkIndex {l : Launch} (hl : l.stackTraces = false) {G : gG} {k n : Int32} {M : gM} {K : gM → Prop} (h0 : ¬ k < 0) (h1 : k < n) (hf : K M) : gMet l G yJ3_checkIndex (ws_ yJ3_checkIndex cJ3_checkIndex 2 none) ({ frames := 1, cells := 0, slots := 0, locals := 22 }) M [.int k, .int n] (kV K) kN := by
  refine gm_of hl (ret := none) rfl (Nat.le_of_ble_eq_true rfl) (fun X h hq => ?_)
  have h : hX l G X cJ3_checkIndex 2 "java/lang/String" 1 22 := h
  show V l G X 0 0 M 0 [(0, .int k), (1, .int n)] []
  refine r_iload_n h 0 dJ3_checkIndex_0 rfl rfl ?_
  refine r_iload_n h 1 dJ3_checkIndex_1 rfl rfl ?_
  refine r_getsF h q887 dJ3_checkIndex_2 (fun o => ?_)
  refine r_callS (n := 3) (As := [.int k, .int n, va_rf o]) (rest := []) h (m_J5_checkIndex (K := fun x M' => M' = M) hl h0 h1 rfl) ⟨by decide, by decide, by decide +kernel⟩ dJ3_checkIndex_5 q889 q890 q151 q891 rfl rfl (Nat.zero_le _) (by decide) (by decide) (Nat.zero_le _) (Nat.zero_le _) (kI_go (fun x M1 e => ?_)) kN_go
  subst e
  refine r_pop h dJ3_checkIndex_8 rfl ?_
  exact r_return h hq dJ3_checkIndex_9 ⟨rfl, hf⟩
theorem m_J3_length {l : Launch} (hl : l.stackTraces = false) {G : gG} {a0 : Nat} {M : gM} {K : Int32 → gM → Prop} (hf : f_len a0 M K) : gMet l G yJ3_length (ws_ yJ3_length cJ3_length 1 (some .int)) ({ frames := 1, cells := 0, slots := 0, locals := 20 }) M [.ref a0] (kI K) kN := by
  obtain ⟨i, hw, hf⟩ := hf
  refine gm_of hl (ret := some .int) rfl (Nat.le_of_ble_eq_true rfl) (fun X h hq => ?_)
  have h : hX l G X cJ3_length 1 "java/lang/String" 1 20 := h
  show V l G X 0 0 M 0 [(0, .ref a0)] []
  refine r_aload_n h 0 dJ3_length_0 rfl rfl ?_
  refine r_sget h "value" "[B" (.ref (gSv G i)) (Or.inr ⟨rfl, rfl, rfl⟩) hw q2306 dJ3_length_1 ?_
  refine r_slenB h hw dJ3_length_4 ?_
  refine r_aload_n h 0 dJ3_length_5 rfl rfl ?_
  refine r_callVS (n := 0) (As := []) (rest := [.int (nI (gSl.getD i 0))]) h (m_J3_coder (K := fun x M' => x = 0 ∧ M' = M) hl hw ⟨rfl, rfl⟩) hw rfl ⟨by decide, by decide, by decide +kernel⟩ dJ3_length_6 q867 q868 q869 q149 q870 rfl rfl (Nat.le_of_ble_eq_true rfl) (by decide) (by decide) (Nat.zero_le _) (Nat.zero_le _) (kI_go (fun x M1 e => ?_)) kN_go
  obtain ⟨rfl, rfl⟩ := e
  refine r_ishr h dJ3_length_9 ?_
  have e : nI (gSl.getD i 0) >>> ((0 : Int32) &&& 31) = nI (gSl.getD i 0) := by
    rw [show ((0 : Int32) &&& 31) = 0 by decide]
    simp
  rw [e]
  exact r_ireturn h hq dJ3_length_10 ⟨_, rfl, hf⟩
theorem gSb_ok : gSb.all (fun l => l.all (fun b => decide (((b &&& 255).toUInt32 % 65536).toInt32 = b))) = true := by decide +kernel
theorem gSb_at (i k : Nat) : (((gSb.getD i []).getD k 0 &&& 255).toUInt32 % 65536).toInt32 = (gSb.getD i []).getD k 0 := by
  have h1 : ((gSb.getD i []).all (fun b => decide (((b &&& 255).toUInt32 % 65536).toInt32 = b))) = true := by
    rw [List.getD_eq_getElem?_getD]
    cases h : gSb[i]? with
    | none => rfl
    | some l => exact List.all_eq_true.mp gSb_ok l (List.mem_of_getElem? h)
  rw [List.getD_eq_getElem?_getD (l := gSb.getD i [])]
  cases h : (gSb.getD i [])[k]? with
  | none => decide
  | some b => exact of_decide_eq_true (List.all_eq_true.mp h1 b (List.mem_of_getElem? h))
theorem m_J4_charAt {l : Launch} (hl : l.stackTraces = false) {G : gG} {w i : Nat} {k : Int32} {M : gM} {K : Int32 → gM → Prop} (hw : kd M w = some (.inr (10, i))) (hk : vp_in k (gSl.getD i 0)) (h31 : gSl.getD i 0 < 2 ^ 31) (hf : K ((gSb.getD i []).getD (ix k) 0) M) : gMet l G yJ4_charAt (ws_ yJ4_charAt cJ4_charAt 2 (some .char)) ({ frames := 2, cells := 0, slots := 0, locals := 43 }) M [.ref (gSv G i), .int k] (kI K) kN := by
  refine gm_of hl (ret := some .char) rfl (Nat.le_of_ble_eq_true rfl) (fun X h hq => ?_)
  have h : hX l G X cJ4_charAt 2 "java/lang/StringLatin1" 2 43 := h
  show V l G X 0 0 M 0 [(0, .ref (gSv G i)), (1, .int k)] []
  refine r_iload_n h 1 dJ4_charAt_0 rfl rfl ?_
  refine r_aload_n h 0 dJ4_charAt_1 rfl rfl ?_
  refine r_slenB h hw dJ4_charAt_2 ?_
  obtain ⟨j, hj, rfl⟩ := vp_in_of hk h31
  refine r_callS (n := 2) (As := [.int (nI j), .int (nI (gSl.getD i 0))]) (rest := []) h (m_J3_checkIndex (K := fun M' => M' = M) hl (nI_pos (by omega)) (nI_lt hj h31) rfl) ⟨by decide, by decide, by decide +kernel⟩ dJ4_charAt_3 q884 q885 q149 q886 rfl rfl (Nat.zero_le _) (by decide) (by decide) (Nat.zero_le _) (Nat.zero_le _) (kV_go (fun M1 e => ?_)) kN_go
  subst e
  refine r_aload_n h 0 dJ4_charAt_6 rfl rfl ?_
  refine r_iload_n h 1 dJ4_charAt_7 rfl rfl ?_
  refine r_sbald h hw hk dJ4_charAt_8 ?_
  refine r_sipush (v := 255) h dJ4_charAt_9 (by decide) ?_
  refine r_iand h dJ4_charAt_12 ?_
  refine r_i2c h dJ4_charAt_13 ?_
  exact r_nreturn h hq dJ4_charAt_14 (pk_nc _) ⟨_, rfl, by rw [gSb_at]; exact hf⟩
theorem gSl_ok : gSl.all (fun n => decide (n < 2 ^ 31)) = true := by decide +kernel
theorem m_J3_charAt {l : Launch} (hl : l.stackTraces = false) {G : gG} {a0 : Nat} {a1 : Int32} {M : gM} {K : Int32 → gM → Prop} (hf : f_charAt a0 a1 M K) : gMet l G yJ3_charAt (ws_ yJ3_charAt cJ3_charAt 2 (some .char)) ({ frames := 3, cells := 0, slots := 0, locals := 64 }) M [.ref a0, .int a1] (kI K) kN := by
  obtain ⟨i, hw, hk, hf⟩ := hf
  have h31 : gSl.getD i 0 < 2 ^ 31 := by
    rw [List.getD_eq_getElem?_getD]
    cases h : gSl[i]? with
    | none => decide
    | some b => exact of_decide_eq_true (List.all_eq_true.mp gSl_ok b (List.mem_of_getElem? h))
  refine gm_of hl (ret := some .char) rfl (Nat.le_of_ble_eq_true rfl) (fun X h hq => ?_)
  have h : hX l G X cJ3_charAt 2 "java/lang/String" 3 64 := h
  show V l G X 0 0 M 0 [(0, .ref a0), (1, .int a1)] []
  refine r_aload_n h 0 dJ3_charAt_0 rfl rfl ?_
  refine r_callVS (n := 0) (As := []) (rest := []) h (m_J3_isLatin1 (K := fun x M' => x = 1 ∧ M' = M) hl hw ⟨rfl, rfl⟩) hw rfl ⟨by decide, by decide, by decide +kernel⟩ dJ3_charAt_1 q877 q878 q879 q149 q880 rfl rfl (Nat.zero_le _) (by decide) (by decide) (Nat.zero_le _) (Nat.zero_le _) (kI_go (fun x M1 e => ?_)) kN_go
  obtain ⟨rfl, rfl⟩ := e
  refine r_if_eq (tgt := 16) h dJ3_charAt_4 (by decide) (fun c => absurd c (by decide)) (fun _ => ?_)
  refine r_aload_n h 0 dJ3_charAt_7 rfl rfl ?_
  refine r_sget h "value" "[B" (.ref (gSv G i)) (Or.inr ⟨rfl, rfl, rfl⟩) hw q2306 dJ3_charAt_8 ?_
  refine r_iload_n h 1 dJ3_charAt_11 rfl rfl ?_
  refine r_callS (n := 2) (As := [.ref (gSv G i), .int a1]) (rest := []) h (m_J4_charAt (K := fun x M' => x = (gSb.getD i []).getD (ix a1) 0 ∧ M' = M1) hl hw hk h31 ⟨rfl, rfl⟩) ⟨by decide, by decide, by decide +kernel⟩ dJ3_charAt_12 q881 q882 q150 q883 rfl rfl (Nat.zero_le _) (by decide) (by decide) (Nat.zero_le _) (Nat.zero_le _) (kI_go (fun x M2 e => ?_)) kN_go
  obtain ⟨rfl, rfl⟩ := e
  exact r_nreturn h hq dJ3_charAt_15 (by rw [← gSb_at]; exact pk_nc _) ⟨_, rfl, hf⟩
end STR7
