/-! THE END: the constants out of the tables' words and the premises; whole_start out of the law's walk -/
set_option maxRecDepth 100000
/-- where the reader's class loads text number i -/
def gTl : List Nat := [17, 19, 21, 23, 25, 27, 29, 31, 37, 39, 125, 133, 137, 142, 145, 153, 154, 158, 239, 166, 186, 244, 246, 248, 250, 282, 274, 276]
def gTm (i : Nat) : Term := .string "GlacierMail$Reader" (gTl.getD i 0)
abbrev gN1 : List Cond := flatC (Jvm.Cond.and given_1 narrow_1)
theorem gClasses {args : Array Value} {s : State} (hts : ∀ w ∈ lw_all, w.before args s = true) : ∃ D : va_G, ∀ (c : Nat) (q : vw_C), gCl[c]? = some q → u_Kn s q.1 q.2.1 q.2.2 (D.1 c) (D.2 c) := by
  have h0 : ∀ c : Nat, ∃ z : ClassId × (Nat → Nat), ∀ q : vw_C, gCl[c]? = some q → u_Kn s q.1 q.2.1 q.2.2 z.1 z.2 := by
    intro c
    match c with
    | 0 => obtain ⟨a, b, h⟩ := u_known (C := RX1) (T := TX1) (N := 16) (n := 16) hts in_X1 (hts _ q170); exact ⟨(a, b), fun q hq => by cases hq; exact h⟩
    | 1 => obtain ⟨a, b, h⟩ := u_known (C := RX1) (T := TX1) (N := 16) (n := 16) hts in_X1 (hts _ q170); exact ⟨(a, b), fun q hq => by cases hq; exact h⟩
    | 2 => obtain ⟨a, b, h⟩ := u_known (C := RX2) (T := TX2) (N := 11) (n := 11) hts in_X2 (hts _ q178); exact ⟨(a, b), fun q hq => by cases hq; exact h⟩
    | 3 => obtain ⟨a, b, h⟩ := u_known (C := RX3) (T := TX3) (N := 24) (n := 24) hts in_X3 (hts _ q198); exact ⟨(a, b), fun q hq => by cases hq; exact h⟩
    | 4 => obtain ⟨a, b, h⟩ := u_known (C := RX4) (T := TX4) (N := 2) (n := 2) hts in_X4 (hts _ q212); exact ⟨(a, b), fun q hq => by cases hq; exact h⟩
    | 5 => obtain ⟨a, b, h⟩ := u_known (C := RX5) (T := TX5) (N := 3) (n := 3) hts in_X5 (hts _ q231); exact ⟨(a, b), fun q hq => by cases hq; exact h⟩
    | 6 => obtain ⟨a, b, h⟩ := u_known (C := RX6) (T := TX6) (N := 3) (n := 3) hts in_X6 (hts _ q253); exact ⟨(a, b), fun q hq => by cases hq; exact h⟩
    | 7 => obtain ⟨a, b, h⟩ := u_known (C := RX7) (T := TX7) (N := 7) (n := 7) hts in_X7 (hts _ q274); exact ⟨(a, b), fun q hq => by cases hq; exact h⟩
    | 8 => obtain ⟨a, b, h⟩ := u_known (C := RX8) (T := TX8) (N := 7) (n := 7) hts in_X8 (hts _ q434); exact ⟨(a, b), fun q hq => by cases hq; exact h⟩
    | 9 => obtain ⟨a, b, h⟩ := u_known (C := RX9) (T := TX9) (N := 5) (n := 5) hts in_X9 (hts _ q547); exact ⟨(a, b), fun q hq => by cases hq; exact h⟩
    | 10 => obtain ⟨a, b, h⟩ := u_known (C := RX10) (T := TX10) (N := 39) (n := 39) hts in_X10 (hts _ q1587); exact ⟨(a, b), fun q hq => by cases hq; exact h⟩
    | 11 => obtain ⟨a, b, h⟩ := u_known (C := RX11) (T := TX11) (N := 3) (n := 3) hts in_X11 (hts _ q1025); exact ⟨(a, b), fun q hq => by cases hq; exact h⟩
    | 12 => obtain ⟨a, b, h⟩ := u_known (C := RX12) (T := TX12) (N := 1) (n := 1) hts in_X12 (hts _ q1036); exact ⟨(a, b), fun q hq => by cases hq; exact h⟩
    | 13 => obtain ⟨a, b, h⟩ := u_known (C := RX13) (T := TX13) (N := 2) (n := 2) hts in_X13 (hts _ q1050); exact ⟨(a, b), fun q hq => by cases hq; exact h⟩
    | 14 => obtain ⟨a, b, h⟩ := u_known (C := RX14) (T := TX14) (N := 2) (n := 2) hts in_X14 (hts _ q1073); exact ⟨(a, b), fun q hq => by cases hq; exact h⟩
    | 15 => obtain ⟨a, b, h⟩ := u_known (C := RX15) (T := TX15) (N := 1) (n := 1) hts in_X15 (hts _ q1086); exact ⟨(a, b), fun q hq => by cases hq; exact h⟩
    | 16 => obtain ⟨a, b, h⟩ := u_known (C := RX1) (T := TX1) (N := 16) (n := 16) hts in_X1 (hts _ q170); exact ⟨(a, b), fun q hq => by cases hq; exact h⟩
    | 17 => obtain ⟨a, b, h⟩ := u_known (C := RX17) (T := TX17) (N := 2) (n := 2) hts in_X17 (hts _ q1113); exact ⟨(a, b), fun q hq => by cases hq; exact h⟩
    | 18 => obtain ⟨a, b, h⟩ := u_known (C := RX18) (T := TX18) (N := 1) (n := 1) hts in_X18 (hts _ q1129); exact ⟨(a, b), fun q hq => by cases hq; exact h⟩
    | 19 => obtain ⟨a, b, h⟩ := u_known (C := "java/lang/IllegalArgumentException") (T := gNoF) (N := 0) (n := 6) hts (fun w hw => nomatch hw) (hts _ q967); exact ⟨(a, b), fun q hq => by cases hq; exact h⟩
    | c + 20 => exact ⟨(0, fun _ => 0), fun q hq => by simp [gCl] at hq⟩
  obtain ⟨z, hz⟩ := Classical.axiomOfChoice h0
  exact ⟨(fun c => (z c).1, fun c => (z c).2), hz⟩
theorem gArrs {args : Array Value} {s : State} (htb : ∀ w ∈ lw_tbl, w.before args s = true) : ∃ cA : Nat → ClassId, (∀ t : Nat, t < 10 → ArrOfT s (cA t) (gTy t) ∧ va_RA s (cA t) (gTy t)) ∧ ∀ t : Nat, 3 ≤ t → t < 10 → va_AO (match gTy t with | .object C => C | _ => "") s := by
  have hao : ∀ t : Nat, 3 ≤ t → t < 10 → (Cond.arrayOver (gTy t)).before args s = true := by
    intro t h3 h10
    match t, h3, h10 with
    | 3, _, _ => exact htb _ q184
    | 4, _, _ => exact htb _ q196
    | 5, _, _ => exact htb _ q204
    | 6, _, _ => exact htb _ q206
    | 7, _, _ => exact htb _ q208
    | 8, _, _ => exact htb _ q210
    | 9, _, _ => exact htb _ q545
    | n + 10, _, h => omega
  have h0 : ∀ t : Nat, ∃ z : ClassId, t < 10 → ArrOfT s z (gTy t) ∧ va_RA s z (gTy t) := by
    intro t
    by_cases h3 : 3 ≤ t
    · by_cases h10 : t < 10
      · have h := hao t h3 h10
        obtain ⟨C, hC⟩ : ∃ C, gTy t = .object C := by
          match t, h3, h10 with
          | 3, _, _ => exact ⟨_, rfl⟩
          | 4, _, _ => exact ⟨_, rfl⟩
          | 5, _, _ => exact ⟨_, rfl⟩
          | 6, _, _ => exact ⟨_, rfl⟩
          | 7, _, _ => exact ⟨_, rfl⟩
          | 8, _, _ => exact ⟨_, rfl⟩
          | 9, _, _ => exact ⟨_, rfl⟩
          | n + 10, _, h => omega
        rw [hC] at h
        obtain ⟨comp, c, k, f1, -, f2, f3, f4⟩ := Cond.arrayOver_spec h
        exact ⟨c, fun _ => by rw [hC]; exact ⟨fun N z => ⟨(fun k h => by cases h), k, f2, comp, f3⟩, k, comp, f2, f3, f1, f4⟩⟩
      · exact ⟨0, fun h => absurd h h10⟩
    · match t, h3 with
      | 0, _ => obtain ⟨c, k, comp, f1, f2, f3⟩ := Cond.arrayClass_spec (htb _ (lw_all_tbl q230)); exact ⟨c, fun _ => ⟨fun N z => ⟨(fun k h => by cases h), k, f2, comp, f3⟩, f1⟩⟩
      | 1, _ => obtain ⟨c, k, comp, f1, f2, f3⟩ := Cond.arrayClass_spec (htb _ (lw_all_tbl q229)); exact ⟨c, fun _ => ⟨fun N z => ⟨(fun k h => by cases h), k, f2, comp, f3⟩, f1⟩⟩
      | 2, _ => obtain ⟨c, k, comp, f1, f2, f3⟩ := Cond.arrayClass_spec (htb _ (lw_all_tbl q2276)); exact ⟨c, fun _ => ⟨fun N z => ⟨(fun k h => by cases h), k, f2, comp, f3⟩, f1⟩⟩
      | n + 3, h => omega
  obtain ⟨z, hz⟩ := Classical.axiomOfChoice h0
  refine ⟨z, hz, fun t h3 h10 => ?_⟩
  have h := hao t h3 h10
  match t, h3, h10 with
  | 3, _, _ => exact va_AO.of h
  | 4, _, _ => exact va_AO.of h
  | 5, _, _ => exact va_AO.of h
  | 6, _, _ => exact va_AO.of h
  | 7, _, _ => exact va_AO.of h
  | 8, _, _ => exact va_AO.of h
  | 9, _, _ => exact va_AO.of h
  | n + 10, _, h => omega
/-- two texts at one address have the same signs -/
theorem gSame {N : Nat} {len : List Nat} {byt : List (List Int32)} {a v w i j : Nat} {A : Nat → Prop} {U : State} {H : Heap} (hi : len.getD i 0 < 2 ^ 31) (hj : len.getD j 0 < 2 ^ 31)
    (h1 : va_OF "java/lang/String" "value" "[B" (.ref v) a A U H) (h2 : va_T .byte v (len.getD i 0) (fun k => .int ((byt.getD i []).getD k 0)) A U H)
    (h3 : va_OF "java/lang/String" "value" "[B" (.ref w) a A U H) (h4 : va_T .byte w (len.getD j 0) (fun k => .int ((byt.getD j []).getD k 0)) A U H) : len.getD i 0 = len.getD j 0 ∧ ∀ k, k < len.getD i 0 → (byt.getD i []).getD k 0 = (byt.getD j []).getD k 0 := by
  obtain ⟨cf, k, fi, f, cell, g1, g2, g3, g4, g5, g6⟩ := h1
  obtain ⟨cf', k', fi', f', cell', e1, e2, e3, e4, e5, e6⟩ := h3
  rw [g1] at e1
  cases e1
  rw [g3] at e3
  cases e3
  rw [g5] at e5
  cases e5
  obtain ⟨c1, a1, a2, a3, a4, a5, a6, a7⟩ := h2
  obtain ⟨c2, b1, b2, b3, b4, b5, b6, b7⟩ := h4
  rw [a1] at b1
  cases b1
  have e := a5.symm.trans b5
  have h8 : len.getD i 0 = len.getD j 0 := by
    have := congrArg Int32.toNatClampNeg e
    have hz : ∀ n : Nat, n < 2 ^ 31 → (Int32.ofNat n).toNatClampNeg = n := fun n hn => by
      show (Int32.ofNat n).toInt.toNat = n
      rw [Int32.toInt_ofNat_of_lt hn]
      exact Int.toNat_natCast n
    rwa [hz _ hi, hz _ hj] at this
  refine ⟨h8, fun k hk => ?_⟩
  have q := (a6 k hk).symm.trans (b6 k (h8 ▸ hk))
  injection q with q
  injection q
theorem gTx1 : ∀ i, i < gSN → (Cond.exactly (gTm i) "java/lang/String") ∈ gN1 ∧ (Cond.eq (.field (gTm i) "java/lang/String" "coder" "B") (.int 0)) ∈ gN1 ∧ (Cond.arrayOf (.field (gTm i) "java/lang/String" "value" "[B") .byte) ∈ gN1 ∧ (Cond.eq (.length (.field (gTm i) "java/lang/String" "value" "[B")) (.int (Int32.ofNat (gSl.getD i 0)))) ∈ gN1 := by decide +kernel
theorem gTx2 : ∀ i, i < gSN → ∀ j, j < gSl.getD i 0 → (Cond.eq (.elem (.field (gTm i) "java/lang/String" "value" "[B") (.int (Int32.ofNat j))) (.int ((gSb.getD i []).getD j 0))) ∈ gN1 := by decide +kernel
theorem gTx3 : ∀ i, i < gSN → ∀ j, j < gSN → i ≠ j → ¬ (gSl.getD i 0 = gSl.getD j 0 ∧ ∀ k, k < gSl.getD i 0 → (gSb.getD i []).getD k 0 = (gSb.getD j []).getD k 0) := by decide +kernel
theorem gTx4 : ∀ q ∈ gSr, q.2.2.2 < gSN ∧ (Term.string q.1 q.2.1 = gTm q.2.2.2 ∨ Cond.eq (gTm q.2.2.2) (Term.string q.1 q.2.1) ∈ gN1) ∧ Cond.stringRef q.1 q.2.1 q.2.2.1 ∈ lw_tbl := by decide +kernel
theorem gSl_31 (i : Nat) : gSl.getD i 0 < 2 ^ 31 := by
  by_cases h : i < 28
  · exact (by decide +kernel : ∀ i, i < 28 → gSl.getD i 0 < 2 ^ 31) i h
  · have h2 : gSl[i]? = none := List.getElem?_eq_none (by show 28 ≤ i; omega)
    simp [List.getD, h2]
theorem gTexts {args : Array Value} {s : State} {A : Nat → Prop} (htb : ∀ w ∈ lw_tbl, w.before args s = true) (hs : ∀ w ∈ gN1, w.before args s = true) (hA : ∀ a : Nat, a < s.heap.size → ¬ A a) :
    ∃ adK adV : Nat → Nat, vk_S gSN gSl gSb adK adV A s s.heap ∧ ∀ q ∈ gSr, vk_R q.1 q.2.1 q.2.2.1 (adK q.2.2.2) s := by
  have h0 : ∀ i : Nat, ∃ q : Nat × Nat, i < gSN → (gTm i).eval args s none [] s = some (.ref q.1) ∧ va_O "java/lang/String" q.1 A s s.heap ∧ va_OF "java/lang/String" "coder" "B" (.int 0) q.1 A s s.heap ∧ va_OF "java/lang/String" "value" "[B" (.ref q.2) q.1 A s s.heap ∧ va_T .byte q.2 (gSl.getD i 0) (fun j => .int ((gSb.getD i []).getD j 0)) A s s.heap := by
    intro i
    by_cases hi : i < gSN
    · obtain ⟨t1, t2, t3, t4⟩ := gTx1 i hi
      obtain ⟨a, c, cA, kA, q1, q2, q3, q4, q5, q6, -⟩ := Cond.exactly_spec (args := args) (first := s) (o := none) (s := s) (idx := []) (t := gTm i) (cls := "java/lang/String") (hs _ t1)
      obtain ⟨t, ht, hT⟩ := va_Tof (f := fun j => .int ((gSb.getD i []).getD j 0)) (A := A) (gSl_31 i) (hs _ t3) (va_eqt (hs _ t4)) (fun j hj => va_eqt (hs _ (gTx2 i hi j hj))) hA
      exact ⟨(a, t), fun _ => ⟨q1, ⟨cA, q3, q5, by rw [q6]; exact q2, hA a (Array.getElem?_eq_some_iff.mp q3).1⟩, vk_OFof q1 (va_eqt (hs _ t2)) hA, vk_OFof q1 ht hA, hT⟩⟩
    · exact ⟨(0, 0), fun h => absurd h hi⟩
  obtain ⟨ad, had⟩ := Classical.axiomOfChoice h0
  refine ⟨fun i => (ad i).1, fun i => (ad i).2, ⟨fun i hi => (had i hi).2, fun i j hi hj e => ?_⟩, fun q hq => ?_⟩
  · by_cases hij : i = j
    · exact hij
    · obtain ⟨-, -, -, a1, a2⟩ := had i hi
      obtain ⟨-, -, -, b1, b2⟩ := had j hj
      have e : (ad i).1 = (ad j).1 := e
      rw [e] at a1
      exact absurd (gSame (N := gSN) (gSl_31 i) (gSl_31 j) a1 a2 b1 b2) (gTx3 i hi j hj hij)
  · obtain ⟨hi, ht, hr⟩ := gTx4 q hq
    refine vk_R.of (htb _ hr) ?_
    have h1 := (had _ hi).1
    rcases ht with ht | ht
    · rw [ht]; exact h1
    · have h2 := hs _ ht
      cases hv : (Term.string q.1 q.2.1).eval args s none [] s with
      | none => simp [Cond.before, Cond.holds, Cond.value, h1, hv] at h2
      | some w =>
        have h3 : w = .ref (ad q.2.2.2).1 := by
          cases w <;> simp [Cond.before, Cond.holds, Cond.value, h1, hv] at h2
          exact congrArg Value.ref h2.symm
        rw [h3]
