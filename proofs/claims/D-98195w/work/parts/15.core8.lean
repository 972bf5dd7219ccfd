/-! CORE 8: exceptions made and kept -/
section MAKE8
variable {l : Launch} {G : gG} {X : gX} {cc : ByteArray} {nL : Nat} {own : String} {F L bc bs : Nat} {M : gM} {pc : Nat} {lv lv' : List (Nat × Value)} {rest : List Value} {a : Nat}
/-- 'new E()' that isn't thrown at once (follows vx_make0 of kit/laws) -/
theorem r_make0 (h : hX l G X cc nL own F L) {cls : String} {names : List String} {ik ic : Nat} (hcls : Bundle.fit cls = true) (hnames : ∀ n ∈ names, Bundle.fit n = true) (ci : Nat) {T0 : u_T} (hc : gCl[ci]? = some (cls, T0, 0)) (hk : Cond.classLink own ik cls ∈ lw_all) (hini : Cond.initialized cls ∈ lw_all) (ha1 : ∀ w ∈ (vx_at0 own ic cls names).filter goodWord, w ∈ lw_all) (B : List Cond) (ha2 : ∀ w ∈ (vx_at0 own ic cls names).filter (fun w => !goodWord w), w ∈ B) (ha3 : ∀ w ∈ B, (∃ y ∈ gDe, w = .declares y) ∨ ∃ q ∈ gCa, w = .castable q.1 q.2) (hgood : ∀ w ∈ Cond.classLink own ik cls :: Cond.initialized cls :: vx_at0 own ic cls names, vx_ot w = true) (hnl : names.length ≤ 2)
    (d0 : decode cc pc = .ok (.new ik, 3)) (d3 : decode cc (pc + 3) = .ok (.dup, 1)) (d4 : decode cc (pc + 4) = .ok (.invokespecial ic, 3)) (h1 : 1 ≤ bc) (h2 : 6 ≤ bs) (hF : 12 ≤ F) (hL : 200 ≤ L) (hst : (rest.map fun v => v.category).sum ≤ 8) (kk : ∀ n, sz M < n → V l G X (bc - 1) (bs - 6) (sZ (sN M (.inl ci)) n) (pc + 7) lv (.ref (sz M) :: rest)) : V l G X bc bs M pc lv rest := by
  obtain ⟨p, e, R, s, m, args, below, meth, c, Q, nl⟩ := X
  obtain ⟨hx, hb, hml, hnl9, hown, hts, hK, hlk, hF9, hL9, hl⟩ := h
  intro g1 g2 H locs la hR hS hlv T hT X
  have hat : ∀ w ∈ vx_at0 own ic cls names, w.before args s = true := vx_hat (B := B) (fun w hw => hts _ (ha1 w hw)) ha2 fun w hw => by
    rcases ha3 w hw with ⟨y, hy, rfl⟩ | ⟨q, hq, rfl⟩
    · exact va_Nw.use rfl (hK.2.2.2.2.2.2.2.2.2.2.2.2.2.2.1 y hy)
    · exact va_Nw.use rfl (hK.2.2.2.2.2.1 q hq)
  have hU := hK.2.2.2.2.2.2.2.2.2.2.1
  have hN := hK.2.2.2.2.2.2.2.2.2.2.2.1
  have hT0 : T.heap = H := hT
  have htr : e.platform.stackTraces = false := (show e.platform.stackTraces = l.stackTraces by rw [X.admits.platform]).trans hl
  have Y := vx_rebase X (R' := { frames := R.frames, locals := R.locals, cells := 1, slots := 6 }) (Nat.le_refl _) (Nat.le_refl _) (by show R.cells - bc + 1 ≤ R.cells; omega) (by show R.slots - bs + 6 ≤ R.slots; omega)
  obtain ⟨s', hA'⟩ : ∃ z, z = (T.setVm s.vm).setFrames (.invoking m args :: below) := ⟨_, rfl⟩
  rw [← hA'] at Y
  have hvm : s'.vm = s.vm := by rw [hA']; rfl
  have hhp : s'.heap = H := by rw [hA']; exact hT0
  have hW0 : s.WarmedH s'.vm := by rw [hvm]; exact State.WarmedH.refl s
  have hat' : ∀ w ∈ vx_at0 own ic cls names, w.before args s' = true := fun w hw => vx_ot_at hW0 hvm.symm (hgood w (List.mem_cons_of_mem _ (List.mem_cons_of_mem _ hw))) (hat w hw)
  have hk' : (Cond.classLink own ik cls).before args s' = true := vx_ot_at hW0 hvm.symm (hgood _ List.mem_cons_self) (hts _ hk)
  have hini' : (Cond.initialized cls).before args s' = true := vx_ot_at hW0 hvm.symm (hgood _ (List.mem_cons_of_mem _ List.mem_cons_self)) (hts _ hini)
  have hU' : vx_Zq Bundle.tN "UNASSIGNED_STACK" Bundle.steD (gF G) s' s'.heap := by rw [hhp]; exact vx_Zq.moved hW0.alike (hU.kept hS.2.1)
  have hN' : vx_Zq Bundle.tN "SUPPRESSED_SENTINEL" Bundle.listD (gF G) s' s'.heap := by rw [hhp]; exact vx_Zq.moved hW0.alike (hN.kept hS.2.1)
  have h : ∀ w ∈ Bundle.ownAtoms0 own ic cls names, w.before args s' = true := vx_own hat' (vx_isRefq hU'.1) (vx_isRefq hN'.1) hU'.2.word hN'.2.word
  have hown' : s'.vm.findClass own = some m.cls := by rw [hvm]; exact hown
  have hins : (Cond.instantiable cls 6).before args s' = true := h _ (by simp [Bundle.ownAtoms0])
  obtain ⟨vm₁, cX, kX, hfX, hkX, -, -, X₁, st1⟩ := Y.newCold hx (own := own) (C := cls) (index := ik) (n := 6) hown' hk' hins hini'
    (g := F0 m pc la rest) rfl (by rw [hb]; exact d0) (Nat.le_refl _) (Nat.le_refl _)
  generalize hT1 : (T.setVm vm₁).pushCell { cls := cX, slots := kX.instanceTypes.map defaultValue, vm := .none } = T1 at X₁ st1
  have hcat : (Value.ref T.heap.size).category = 1 := rfl
  have hcellA : T1.heap[T.heap.size]? = some (freshCell cX kX) := by rw [← hT1]; exact State.heap_pushCell_size _ _
  have d3' : decode c.code (pc + 3) = .ok (.dup, 1) := by rw [hb]; exact d3
  obtain ⟨V, ce, L', Z, hL', hlt, hcl9, hvm9, st⟩ := vx_ctorMade0 X₁ hx htr (own := own) (cls := cls) (names := names) (ic := ic) hown' hcls hnames h (fun x hx => nomatch hx) hfX hkX hcellA (by rw [hhp, hT0]; exact Nat.le_refl _)
    (g := { method := m, pc := pc + 4, locals := la, stack := .ref T.heap.size :: .ref T.heap.size :: rest, locked := none }) rfl (by rw [hml, ← hnl9]; exact hlv.1) (rest := rest) rfl
    (by rw [hb]; exact d4) (by show names.length + 3 < R.frames; omega) (by simp only [List.map_cons, List.sum_cons, hcat]; show 2 * 0 + _ + _ ≤ R.locals; omega)
  have Z0 := Stand.forget (locs := []) Z (fun y hy => by rw [hL' y hy, hhp, hT0]; exact Nat.le_refl _)
  obtain ⟨f1, f2⟩ := vx_frame Z0.same
  rw [hhp] at f1 f2
  have hcid : ce.cls = (gGD G).1 ci := by
    rw [hcl9]
    have h1 := (hK.1 ci _ hc).2.1
    rw [hvm] at hfX
    exact Option.some.inj (hfX.symm.trans h1)
  have hh : (V.setCell T.heap.size ce).heap[T.heap.size]? = some ce := heapAt_setCell_self (s := V) ce hlt
  have hsz : sz M < (V.setCell T.heap.size ce).heap.size := by
    rw [← hR.1, ← hT0]
    exact (Array.getElem?_eq_some_iff.mp hh).1
  subst hA'
  have X5 := vx_back9 X Y Z0
  have X6 : Stand p l e R s m args below meth c (V.setCell T.heap.size ce) locs (R.cells - (bc - 1)) (R.slots - (bs - 6)) := { X5 with same := X5.same.mono (by omega) (by omega) }
  have hR1 : Rp G (sZ (sN M (.inl ci)) (V.setCell T.heap.size ce).heap.size) (V.setCell T.heap.size ce).heap := by
    refine ⟨rfl, Nat.le_trans hR.2.1 (Nat.le_of_lt hsz), fun b => ?_, fun i hi => ⟨(hR.2.2.2 i hi).1, ?_⟩⟩
    · by_cases hb9 : b = sz M
      · subst hb9
        unfold gAt
        rw [show kd (sZ (sN M (.inl ci)) (V.setCell T.heap.size ce).heap.size) (sz M) = some (.inl ci) from if_pos rfl]
        exact ⟨hR.2.1, _, hc, ce, by rw [← hR.1, ← hT0]; exact hh, hcid, hvm9, fun k hk => absurd hk (Nat.not_lt_zero k)⟩
      · have e1 : kd (sZ (sN M (.inl ci)) (V.setCell T.heap.size ce).heap.size) b = kd M b := if_neg hb9
        have e2 : iv (sZ (sN M (.inl ci)) (V.setCell T.heap.size ce).heap.size) b = iv M b := funext fun j => if_neg hb9
        have e3 : rv (sZ (sN M (.inl ci)) (V.setCell T.heap.size ce).heap.size) b = rv M b := funext fun j => if_neg hb9
        have e4 : jv (sZ (sN M (.inl ci)) (V.setCell T.heap.size ce).heap.size) b = jv M b := funext fun j => if_neg hb9
        have h5 := hR.2.2.1 b
        cases hc9 : kd M b with
        | none => unfold gAt; rw [e1, hc9]; trivial
        | some y =>
          by_cases hy : ∃ i, y = .inr (10, i)
          · obtain ⟨i, rfl⟩ := hy
            unfold gAt at h5 ⊢
            rw [e1]
            rw [hc9] at h5 ⊢
            exact h5
          · exact gAt.kept e1 e2 e3 e4 (f2 b (h5.lt hc9 fun i q => hy ⟨i, q⟩) (fun z hz => nomatch hz)) h5
    · have h6 : gSt G i ≠ sz M := fun q => by have := (hR.2.2.2 i hi).1; have := hR.2.1; omega
      exact (if_neg h6).trans (hR.2.2.2 i hi).2
  obtain ⟨t, a1, b1⟩ := kk _ hsz (by omega) (by omega) (V.setCell T.heap.size ce).heap locs la hR1 ⟨Nat.le_trans hS.1 f1, fun q h1 h2 => (f2 q (Nat.lt_of_lt_of_le h1 hS.1) (fun z hz => nomatch hz)).trans (hS.2.1 q h1 h2), hS.2.2⟩ hlv _ rfl X6
  refine ⟨t, st1 _ ?_, b1⟩
  show Steps p.tables e below (T1.setTop { method := m, pc := pc + 3, locals := la, stack := .ref T.heap.size :: rest, locked := none }) _
  jvm_step X₁.here [X₁.here.top, hx, d3', Value.category]
  refine st _ ?_
  rw [show T.heap.size = sz M by rw [hT0, hR.1]] at a1 ⊢
  exact a1
end MAKE8
/-! CORE 8: the throws of this program, by the place of the class link -/
section THROWS8
theorem tw966 : ∀ w ∈ (vx_at0 "GlacierMail" 69 "java/lang/IllegalArgumentException" ["java/lang/RuntimeException", "java/lang/Exception"]).filter goodWord, w ∈ lw_all := lw_in _ [142, 455, 464, 472, 475, 477, 456, 457, 175, 176, 458, 463, 473, 494, 445, 495, 447, 496, 449, 459, 461, 451, 976, 977, 978, 979, 979, 980, 981, 982, 982, 983, 984, 456, 975, 967, 969, 467, 970, 971, 972, 973, 492, 453, 974] (by decide +kernel) (by decide +kernel)
def tb966 : List Cond := [.declares ⟨"java/lang/RuntimeException", "<init>", "()V"⟩, .declares ⟨"java/lang/Exception", "<init>", "()V"⟩, .declares ⟨"java/lang/Throwable", "<init>", "()V"⟩, .castable "java/lang/IllegalArgumentException" "java/lang/IllegalArgumentException"]
theorem tu966 : ∀ w ∈ (vx_at0 "GlacierMail" 69 "java/lang/IllegalArgumentException" ["java/lang/RuntimeException", "java/lang/Exception"]).filter (fun w => !goodWord w), w ∈ tb966 := by decide +kernel
theorem tv966 : ∀ w ∈ tb966, (∃ y ∈ gDe, w = .declares y) ∨ ∃ q ∈ gCa, w = .castable q.1 q.2 := List.forall_mem_cons.mpr ⟨Or.inl ⟨_, (List.mem_of_getElem? (i := 0) rfl), rfl⟩, List.forall_mem_cons.mpr ⟨Or.inl ⟨_, (List.mem_of_getElem? (i := 2) rfl), rfl⟩, List.forall_mem_cons.mpr ⟨Or.inl ⟨_, (List.mem_of_getElem? (i := 4) rfl), rfl⟩, List.forall_mem_cons.mpr ⟨Or.inr ⟨_, (List.mem_of_getElem? (i := 5) rfl), rfl⟩, fun _ h => nomatch h⟩⟩⟩⟩
theorem tg966 : ∀ w ∈ Cond.classLink "GlacierMail" 67 "java/lang/IllegalArgumentException" :: Cond.initialized "java/lang/IllegalArgumentException" :: vx_at0 "GlacierMail" 69 "java/lang/IllegalArgumentException" ["java/lang/RuntimeException", "java/lang/Exception"], vx_ot w = true := by decide +kernel
theorem x966 {l : Launch} {G : gG} {X : gX} {cc : ByteArray} {nL F L bc bs pc : Nat} {M : gM} {lv : List (Nat × Value)} {rest : List Value} {ret : Option FieldType} {ini : String} {K : Option Value → gM → Prop} {KX : Addr → String → gM → Prop} (h : hX l G X cc nL "GlacierMail" F L) (hq : hQ G X ret [] ini K KX) (d0 : decode cc pc = .ok (.new 67, 3)) (d3 : decode cc (pc + 3) = .ok (.dup, 1)) (d4 : decode cc (pc + 4) = .ok (.invokespecial 69, 3)) (d7 : decode cc (pc + 7) = .ok (.athrow, 1)) (h1 : 1 ≤ bc) (h2 : 6 ≤ bs) (hF : 12 ≤ F) (hL : 200 ≤ L) (hst : (rest.map fun v => v.category).sum ≤ 8) (kx : ∀ n, sz M ≤ n → KX (sz M) "java/lang/IllegalArgumentException" (sZ M n)) : V l G X bc bs M pc lv rest := r_throw0 h hq (names := ["java/lang/RuntimeException", "java/lang/Exception"]) (by decide +kernel) (by decide +kernel) q966 q153 tw966 tb966 tu966 tv966 tg966 (by decide) d0 d3 d4 d7 h1 h2 hF hL hst kx
theorem y966 {l : Launch} {G : gG} {X : gX} {cc : ByteArray} {nL F L bc bs pc : Nat} {M : gM} {lv : List (Nat × Value)} {rest : List Value} (h : hX l G X cc nL "GlacierMail" F L) (d0 : decode cc pc = .ok (.new 67, 3)) (d3 : decode cc (pc + 3) = .ok (.dup, 1)) (d4 : decode cc (pc + 4) = .ok (.invokespecial 69, 3)) (h1 : 1 ≤ bc) (h2 : 6 ≤ bs) (hF : 12 ≤ F) (hL : 200 ≤ L) (hst : (rest.map fun v => v.category).sum ≤ 8) (kk : ∀ n, sz M < n → V l G X (bc - 1) (bs - 6) (sZ (sN M (.inl 19)) n) (pc + 7) lv (.ref (sz M) :: rest)) : V l G X bc bs M pc lv rest := r_make0 h (names := ["java/lang/RuntimeException", "java/lang/Exception"]) (by decide +kernel) (by decide +kernel) 19 rfl q966 q153 tw966 tb966 tu966 tv966 tg966 (by decide) d0 d3 d4 h1 h2 hF hL hst kk
theorem tw1324 : ∀ w ∈ (vx_at0 "GlacierMail" 289 "java/lang/IllegalStateException" ["java/lang/RuntimeException", "java/lang/Exception"]).filter goodWord, w ∈ lw_all := lw_in _ [142, 455, 464, 472, 475, 477, 456, 457, 175, 176, 458, 463, 473, 494, 445, 495, 447, 496, 449, 459, 461, 451, 1334, 1335, 1336, 979, 979, 980, 981, 982, 982, 983, 984, 456, 1333, 1325, 1327, 468, 1328, 1329, 1330, 1331, 492, 453, 1332] (by decide +kernel) (by decide +kernel)
def tb1324 : List Cond := [.declares ⟨"java/lang/RuntimeException", "<init>", "()V"⟩, .declares ⟨"java/lang/Exception", "<init>", "()V"⟩, .declares ⟨"java/lang/Throwable", "<init>", "()V"⟩, .castable "java/lang/IllegalStateException" "java/lang/IllegalStateException"]
theorem tu1324 : ∀ w ∈ (vx_at0 "GlacierMail" 289 "java/lang/IllegalStateException" ["java/lang/RuntimeException", "java/lang/Exception"]).filter (fun w => !goodWord w), w ∈ tb1324 := by decide +kernel
theorem tv1324 : ∀ w ∈ tb1324, (∃ y ∈ gDe, w = .declares y) ∨ ∃ q ∈ gCa, w = .castable q.1 q.2 := List.forall_mem_cons.mpr ⟨Or.inl ⟨_, (List.mem_of_getElem? (i := 0) rfl), rfl⟩, List.forall_mem_cons.mpr ⟨Or.inl ⟨_, (List.mem_of_getElem? (i := 2) rfl), rfl⟩, List.forall_mem_cons.mpr ⟨Or.inl ⟨_, (List.mem_of_getElem? (i := 4) rfl), rfl⟩, List.forall_mem_cons.mpr ⟨Or.inr ⟨_, (List.mem_of_getElem? (i := 10) rfl), rfl⟩, fun _ h => nomatch h⟩⟩⟩⟩
theorem tg1324 : ∀ w ∈ Cond.classLink "GlacierMail" 287 "java/lang/IllegalStateException" :: Cond.initialized "java/lang/IllegalStateException" :: vx_at0 "GlacierMail" 289 "java/lang/IllegalStateException" ["java/lang/RuntimeException", "java/lang/Exception"], vx_ot w = true := by decide +kernel
theorem x1324 {l : Launch} {G : gG} {X : gX} {cc : ByteArray} {nL F L bc bs pc : Nat} {M : gM} {lv : List (Nat × Value)} {rest : List Value} {ret : Option FieldType} {ini : String} {K : Option Value → gM → Prop} {KX : Addr → String → gM → Prop} (h : hX l G X cc nL "GlacierMail" F L) (hq : hQ G X ret [] ini K KX) (d0 : decode cc pc = .ok (.new 287, 3)) (d3 : decode cc (pc + 3) = .ok (.dup, 1)) (d4 : decode cc (pc + 4) = .ok (.invokespecial 289, 3)) (d7 : decode cc (pc + 7) = .ok (.athrow, 1)) (h1 : 1 ≤ bc) (h2 : 6 ≤ bs) (hF : 12 ≤ F) (hL : 200 ≤ L) (hst : (rest.map fun v => v.category).sum ≤ 8) (kx : ∀ n, sz M ≤ n → KX (sz M) "java/lang/IllegalStateException" (sZ M n)) : V l G X bc bs M pc lv rest := r_throw0 h hq (names := ["java/lang/RuntimeException", "java/lang/Exception"]) (by decide +kernel) (by decide +kernel) q1324 q167 tw1324 tb1324 tu1324 tv1324 tg1324 (by decide) d0 d3 d4 d7 h1 h2 hF hL hst kx
theorem tw1196 : ∀ w ∈ (vx_at0 "GlacierMail" 75 "java/lang/IndexOutOfBoundsException" ["java/lang/RuntimeException", "java/lang/Exception"]).filter goodWord, w ∈ lw_all := lw_in _ [142, 455, 464, 472, 475, 477, 456, 457, 175, 176, 458, 463, 473, 494, 445, 495, 447, 496, 449, 459, 461, 451, 1206, 1207, 1208, 979, 979, 980, 981, 982, 982, 983, 984, 456, 1205, 1197, 1199, 469, 1200, 1201, 1202, 1203, 492, 453, 1204] (by decide +kernel) (by decide +kernel)
def tb1196 : List Cond := [.declares ⟨"java/lang/RuntimeException", "<init>", "()V"⟩, .declares ⟨"java/lang/Exception", "<init>", "()V"⟩, .declares ⟨"java/lang/Throwable", "<init>", "()V"⟩, .castable "java/lang/IndexOutOfBoundsException" "java/lang/IndexOutOfBoundsException"]
theorem tu1196 : ∀ w ∈ (vx_at0 "GlacierMail" 75 "java/lang/IndexOutOfBoundsException" ["java/lang/RuntimeException", "java/lang/Exception"]).filter (fun w => !goodWord w), w ∈ tb1196 := by decide +kernel
theorem tv1196 : ∀ w ∈ tb1196, (∃ y ∈ gDe, w = .declares y) ∨ ∃ q ∈ gCa, w = .castable q.1 q.2 := List.forall_mem_cons.mpr ⟨Or.inl ⟨_, (List.mem_of_getElem? (i := 0) rfl), rfl⟩, List.forall_mem_cons.mpr ⟨Or.inl ⟨_, (List.mem_of_getElem? (i := 2) rfl), rfl⟩, List.forall_mem_cons.mpr ⟨Or.inl ⟨_, (List.mem_of_getElem? (i := 4) rfl), rfl⟩, List.forall_mem_cons.mpr ⟨Or.inr ⟨_, (List.mem_of_getElem? (i := 8) rfl), rfl⟩, fun _ h => nomatch h⟩⟩⟩⟩
theorem tg1196 : ∀ w ∈ Cond.classLink "GlacierMail" 73 "java/lang/IndexOutOfBoundsException" :: Cond.initialized "java/lang/IndexOutOfBoundsException" :: vx_at0 "GlacierMail" 75 "java/lang/IndexOutOfBoundsException" ["java/lang/RuntimeException", "java/lang/Exception"], vx_ot w = true := by decide +kernel
theorem x1196 {l : Launch} {G : gG} {X : gX} {cc : ByteArray} {nL F L bc bs pc : Nat} {M : gM} {lv : List (Nat × Value)} {rest : List Value} {ret : Option FieldType} {ini : String} {K : Option Value → gM → Prop} {KX : Addr → String → gM → Prop} (h : hX l G X cc nL "GlacierMail" F L) (hq : hQ G X ret [] ini K KX) (d0 : decode cc pc = .ok (.new 73, 3)) (d3 : decode cc (pc + 3) = .ok (.dup, 1)) (d4 : decode cc (pc + 4) = .ok (.invokespecial 75, 3)) (d7 : decode cc (pc + 7) = .ok (.athrow, 1)) (h1 : 1 ≤ bc) (h2 : 6 ≤ bs) (hF : 12 ≤ F) (hL : 200 ≤ L) (hst : (rest.map fun v => v.category).sum ≤ 8) (kx : ∀ n, sz M ≤ n → KX (sz M) "java/lang/IndexOutOfBoundsException" (sZ M n)) : V l G X bc bs M pc lv rest := r_throw0 h hq (names := ["java/lang/RuntimeException", "java/lang/Exception"]) (by decide +kernel) (by decide +kernel) q1196 q163 tw1196 tb1196 tu1196 tv1196 tg1196 (by decide) d0 d3 d4 d7 h1 h2 hF hL hst kx
theorem tw990 : ∀ w ∈ (vx_at0 "GlacierMail" 72 "java/lang/UnsupportedOperationException" ["java/lang/RuntimeException", "java/lang/Exception"]).filter goodWord, w ∈ lw_all := lw_in _ [142, 455, 464, 472, 475, 477, 456, 457, 175, 176, 458, 463, 473, 494, 445, 495, 447, 496, 449, 459, 461, 451, 1000, 1001, 1002, 979, 979, 980, 981, 982, 982, 983, 984, 456, 999, 991, 993, 470, 994, 995, 996, 997, 492, 453, 998] (by decide +kernel) (by decide +kernel)
def tb990 : List Cond := [.declares ⟨"java/lang/RuntimeException", "<init>", "()V"⟩, .declares ⟨"java/lang/Exception", "<init>", "()V"⟩, .declares ⟨"java/lang/Throwable", "<init>", "()V"⟩, .castable "java/lang/UnsupportedOperationException" "java/lang/UnsupportedOperationException"]
theorem tu990 : ∀ w ∈ (vx_at0 "GlacierMail" 72 "java/lang/UnsupportedOperationException" ["java/lang/RuntimeException", "java/lang/Exception"]).filter (fun w => !goodWord w), w ∈ tb990 := by decide +kernel
theorem tv990 : ∀ w ∈ tb990, (∃ y ∈ gDe, w = .declares y) ∨ ∃ q ∈ gCa, w = .castable q.1 q.2 := List.forall_mem_cons.mpr ⟨Or.inl ⟨_, (List.mem_of_getElem? (i := 0) rfl), rfl⟩, List.forall_mem_cons.mpr ⟨Or.inl ⟨_, (List.mem_of_getElem? (i := 2) rfl), rfl⟩, List.forall_mem_cons.mpr ⟨Or.inl ⟨_, (List.mem_of_getElem? (i := 4) rfl), rfl⟩, List.forall_mem_cons.mpr ⟨Or.inr ⟨_, (List.mem_of_getElem? (i := 6) rfl), rfl⟩, fun _ h => nomatch h⟩⟩⟩⟩
theorem tg990 : ∀ w ∈ Cond.classLink "GlacierMail" 70 "java/lang/UnsupportedOperationException" :: Cond.initialized "java/lang/UnsupportedOperationException" :: vx_at0 "GlacierMail" 72 "java/lang/UnsupportedOperationException" ["java/lang/RuntimeException", "java/lang/Exception"], vx_ot w = true := by decide +kernel
theorem x990 {l : Launch} {G : gG} {X : gX} {cc : ByteArray} {nL F L bc bs pc : Nat} {M : gM} {lv : List (Nat × Value)} {rest : List Value} {ret : Option FieldType} {ini : String} {K : Option Value → gM → Prop} {KX : Addr → String → gM → Prop} (h : hX l G X cc nL "GlacierMail" F L) (hq : hQ G X ret [] ini K KX) (d0 : decode cc pc = .ok (.new 70, 3)) (d3 : decode cc (pc + 3) = .ok (.dup, 1)) (d4 : decode cc (pc + 4) = .ok (.invokespecial 72, 3)) (d7 : decode cc (pc + 7) = .ok (.athrow, 1)) (h1 : 1 ≤ bc) (h2 : 6 ≤ bs) (hF : 12 ≤ F) (hL : 200 ≤ L) (hst : (rest.map fun v => v.category).sum ≤ 8) (kx : ∀ n, sz M ≤ n → KX (sz M) "java/lang/UnsupportedOperationException" (sZ M n)) : V l G X bc bs M pc lv rest := r_throw0 h hq (names := ["java/lang/RuntimeException", "java/lang/Exception"]) (by decide +kernel) (by decide +kernel) q990 q154 tw990 tb990 tu990 tv990 tg990 (by decide) d0 d3 d4 d7 h1 h2 hF hL hst kx
theorem tw1239 : ∀ w ∈ (vx_at0 "GlacierMail" 78 "java/util/NoSuchElementException" ["java/lang/RuntimeException", "java/lang/Exception"]).filter goodWord, w ∈ lw_all := lw_in _ [142, 455, 464, 472, 475, 477, 456, 457, 175, 176, 458, 463, 473, 494, 445, 495, 447, 496, 449, 459, 461, 451, 1249, 1250, 1251, 979, 979, 980, 981, 982, 982, 983, 984, 456, 1248, 1240, 1242, 471, 1243, 1244, 1245, 1246, 492, 453, 1247] (by decide +kernel) (by decide +kernel)
def tb1239 : List Cond := [.declares ⟨"java/lang/RuntimeException", "<init>", "()V"⟩, .declares ⟨"java/lang/Exception", "<init>", "()V"⟩, .declares ⟨"java/lang/Throwable", "<init>", "()V"⟩, .castable "java/util/NoSuchElementException" "java/util/NoSuchElementException"]
theorem tu1239 : ∀ w ∈ (vx_at0 "GlacierMail" 78 "java/util/NoSuchElementException" ["java/lang/RuntimeException", "java/lang/Exception"]).filter (fun w => !goodWord w), w ∈ tb1239 := by decide +kernel
theorem tv1239 : ∀ w ∈ tb1239, (∃ y ∈ gDe, w = .declares y) ∨ ∃ q ∈ gCa, w = .castable q.1 q.2 := List.forall_mem_cons.mpr ⟨Or.inl ⟨_, (List.mem_of_getElem? (i := 0) rfl), rfl⟩, List.forall_mem_cons.mpr ⟨Or.inl ⟨_, (List.mem_of_getElem? (i := 2) rfl), rfl⟩, List.forall_mem_cons.mpr ⟨Or.inl ⟨_, (List.mem_of_getElem? (i := 4) rfl), rfl⟩, List.forall_mem_cons.mpr ⟨Or.inr ⟨_, (List.mem_of_getElem? (i := 9) rfl), rfl⟩, fun _ h => nomatch h⟩⟩⟩⟩
theorem tg1239 : ∀ w ∈ Cond.classLink "GlacierMail" 76 "java/util/NoSuchElementException" :: Cond.initialized "java/util/NoSuchElementException" :: vx_at0 "GlacierMail" 78 "java/util/NoSuchElementException" ["java/lang/RuntimeException", "java/lang/Exception"], vx_ot w = true := by decide +kernel
theorem x1239 {l : Launch} {G : gG} {X : gX} {cc : ByteArray} {nL F L bc bs pc : Nat} {M : gM} {lv : List (Nat × Value)} {rest : List Value} {ret : Option FieldType} {ini : String} {K : Option Value → gM → Prop} {KX : Addr → String → gM → Prop} (h : hX l G X cc nL "GlacierMail" F L) (hq : hQ G X ret [] ini K KX) (d0 : decode cc pc = .ok (.new 76, 3)) (d3 : decode cc (pc + 3) = .ok (.dup, 1)) (d4 : decode cc (pc + 4) = .ok (.invokespecial 78, 3)) (d7 : decode cc (pc + 7) = .ok (.athrow, 1)) (h1 : 1 ≤ bc) (h2 : 6 ≤ bs) (hF : 12 ≤ F) (hL : 200 ≤ L) (hst : (rest.map fun v => v.category).sum ≤ 8) (kx : ∀ n, sz M ≤ n → KX (sz M) "java/util/NoSuchElementException" (sZ M n)) : V l G X bc bs M pc lv rest := r_throw0 h hq (names := ["java/lang/RuntimeException", "java/lang/Exception"]) (by decide +kernel) (by decide +kernel) q1239 q166 tw1239 tb1239 tu1239 tv1239 tg1239 (by decide) d0 d3 d4 d7 h1 h2 hF hL hst kx
end THROWS8
