def f_X0_person (a0 : Nat) (a1 : Int32) (a2 : Int32) (a3 : Nat) (M : gM) (K : Int32 → gM → Prop) : Prop :=
  kd M a0 = some (.inl 1) ∧ f_X1_person a0 a1 a2 M (fun x3 M2 => inA M2 a3 2 0 ∧ ∀ M5, M5 = sJ M2 a3 (ix 0) (x3.toInt64) → K 0 M5) (fun q9 E9 M9 => (E9 = "java/lang/IndexOutOfBoundsException" ∧ K 1 M9) ∨ (E9 = "java/util/NoSuchElementException" ∧ K 2 M9))
set_option maxHeartbeats 4000000 in
theorem m_X0_person {l : Launch} (hl : l.stackTraces = false) {G : gG} {a0 : Nat} {a1 : Int32} {a2 : Int32} {a3 : Nat} {M : gM} {K : Int32 → gM → Prop} (hf : f_X0_person a0 a1 a2 a3 M K) : gMet l G yX0_person (wsW_ yX0_person cX0_person 5 (some Jvm.ClassFile.FieldType.int) [(0, 10, 13, 28), (0, 10, 17, 37)]) ({ frames := 33, cells := 2, slots := 12, locals := 738 }) M [.ref a0, .int a1, .int a2, .ref a3] (kI K) kN := by
  refine gm_ofH hl (ret := (some Jvm.ClassFile.FieldType.int)) rfl (Nat.le_of_ble_eq_true rfl) (fun X h hq => ?_)
  have h : hX l G X cX0_person 5 "GlacierMailLaw" 33 738 := h
  have hf := hf
  show V l G X 2 12 M 0 [(0, .ref a0), (1, .int a1), (2, .int a2), (3, .ref a3)] []
  unfold f_X0_person at hf
  refine r_aload_n h 3 dX0_person_0 rfl rfl ?_
  refine r_iconst (v := 0) h dX0_person_1 (by decide) ?_
  refine r_aload_n h 0 dX0_person_2 rfl rfl ?_
  refine r_iload_n h 1 dX0_person_3 rfl rfl ?_
  refine r_iload_n h 2 dX0_person_4 rfl rfl ?_
  obtain ⟨k1, hf⟩ := hf
  refine c1227 hl h dX0_person_5 k1 hf (Nat.le_of_ble_eq_true rfl) (by decide) (by decide) (by decide) (by decide) (fun x3 M2 hf => ?_) (fun q9 E9 M9 hf => ?_)
  · skip
    refine r_i2l h dX0_person_8 ?_
    obtain ⟨j4, hf⟩ := hf
    refine r_lastore h dX0_person_9 j4 ?_
    refine r_goW (fun M5 eM5 => ?_)
    have hf := hf M5 eM5
    refine r_goto (tgt := 21) h dX0_person_10 (by decide) ?_
    refine r_iconst (v := 0) h dX0_person_21 (by decide) ?_
    exact r_ireturn h hq dX0_person_22 ⟨_, rfl, hf⟩
  · rcases hf with ⟨rfl, hf⟩ | ⟨rfl, hf⟩
    · refine r_catch h hq 0 (E := "java/lang/IndexOutOfBoundsException") (nm := "java/lang/IndexOutOfBoundsException") rfl (fun z hz => nomatch hz) (by decide) (by decide) q1153 (List.mem_of_getElem? (i := 8) rfl) ?_
      refine r_astore (lv' := [(4, .ref q9), (0, .ref a0), (1, .int a1), (2, .int a2), (3, .ref a3)]) h dX0_person_13 (by decide) rfl ?_
      refine r_iconst (v := 1) h dX0_person_15 (by decide) ?_
      exact r_ireturn h hq dX0_person_16 ⟨_, rfl, hf⟩
    · refine r_catch h hq 1 (E := "java/util/NoSuchElementException") (nm := "java/util/NoSuchElementException") rfl (List.forall_mem_cons.mpr ⟨Or.inr ⟨by decide, "java/lang/IndexOutOfBoundsException", q1153, List.mem_of_getElem? (i := 18) rfl⟩, List.forall_mem_nil _⟩) (by decide) (by decide) q1226 (List.mem_of_getElem? (i := 9) rfl) ?_
      refine r_astore (lv' := [(4, .ref q9), (0, .ref a0), (1, .int a1), (2, .int a2), (3, .ref a3)]) h dX0_person_17 (by decide) rfl ?_
      refine r_iconst (v := 2) h dX0_person_19 (by decide) ?_
      exact r_ireturn h hq dX0_person_20 ⟨_, rfl, hf⟩
theorem c1223 {l : Launch} {G : gG} {X : gX} {cc : ByteArray} {nL F L bc bs pc : Nat} {M : gM} {lv : List (Nat × Value)} {rest : List Value} {a0 : Nat} {a1 : Int32} {a2 : Int32} {a3 : Nat} {K : Int32 → gM → Prop} (hl : l.stackTraces = false) (h : hX l G X cc nL "GlacierMailLaw" F L) (d : decode cc pc = .ok (.invokestatic 177, 3)) (hf : f_X0_person a0 a1 a2 a3 M K) (hst : (rest.map fun v => v.category).sum ≤ 8) (hF : 34 ≤ F) (hL : 762 ≤ L) (h1 : 2 ≤ bc) (h2 : 12 ≤ bs) (kk : ∀ x M1, K x M1 → V l G X (bc - 2) (bs - 12) M1 (pc + 3) lv (.int x :: rest)) : V l G X bc bs M pc lv (.ref a3 :: .int a2 :: .int a1 :: .ref a0 :: rest) := r_callSH (n := 4) (As := [.ref a0, .int a1, .int a2, .ref a3]) h (m_X0_person hl hf) ⟨by decide, by decide, by decide +kernel⟩ d q1223 q1224 q134 q1225 rfl rfl hst hF hL h1 h2 (kI_go kk) kN_go
def f_X1_letterAt (a0 : Nat) (a1 : Int32) (M : gM) (K : Nat → gM → Prop) (KX : Addr → String → gM → Prop) : Prop :=
  kd M a0 = some (.inl 1) ∧ ∃ b2, rv M a0 1 = some b2 ∧ kd M b2 = some (.inl 3) ∧ f_X1_isIn a1 0 ((iv M b2 14) - 1) M (fun x6 M5 => f_X1_mustBe x6 M5 (fun M7 => kd M7 a0 = some (.inl 1) ∧ ∃ b9, rv M7 a0 1 = some b9 ∧ kd M7 b9 = some (.inl 3) ∧ ∃ b12, rv M7 b9 3 = some b12 ∧ inA M7 b12 8 a1 ∧ ∃ b15, rv M7 b12 (ix a1) = some b15 ∧ K b15 M7) KX)
set_option maxHeartbeats 4000000 in
theorem m_X1_letterAt {l : Launch} (hl : l.stackTraces = false) {G : gG} {a0 : Nat} {a1 : Int32} {M : gM} {K : Nat → gM → Prop} {KX : Addr → String → gM → Prop} (hf : f_X1_letterAt a0 a1 M K KX) : gMet l G yX1_letterAt (ws_ yX1_letterAt cX1_letterAt 2 (some (Jvm.ClassFile.FieldType.object "GlacierMail$Letter"))) ({ frames := 13, cells := 1, slots := 6, locals := 220 }) M [.ref a0, .int a1] (kA K) KX := by
  refine gm_of hl (ret := (some (Jvm.ClassFile.FieldType.object "GlacierMail$Letter"))) rfl (Nat.le_of_ble_eq_true rfl) (fun X h hq => ?_)
  have h : hX l G X cX1_letterAt 2 "GlacierMail" 13 220 := h
  have hf := hf
  show V l G X 1 6 M 0 [(0, .ref a0), (1, .int a1)] []
  unfold f_X1_letterAt at hf
  refine r_iload_n h 1 dX1_letterAt_0 rfl rfl ?_
  refine r_iconst (v := 0) h dX1_letterAt_1 (by decide) ?_
  refine r_aload_n h 0 dX1_letterAt_2 rfl rfl ?_
  obtain ⟨k1, hf⟩ := hf
  obtain ⟨b2, e3, hf⟩ := hf
  refine g573 h dX1_letterAt_3 k1 e3 ?_
  obtain ⟨k4, hf⟩ := hf
  refine g358 h dX1_letterAt_6 k4 ?_
  refine r_iconst (v := 1) h dX1_letterAt_9 (by decide) ?_
  refine r_isub h dX1_letterAt_10 ?_
  refine c634 hl h dX1_letterAt_11 hf (Nat.le_of_ble_eq_true rfl) (by decide) (by decide) (fun x6 M5 hf => ?_)
  refine c1193 hl h dX1_letterAt_14 hf (Nat.le_of_ble_eq_true rfl) (by decide) (by decide) (by decide) (by decide) (fun M7 hf => ?_) (fun q9 E9 M9 hf => r_out h hq hf)
  refine r_aload_n h 0 dX1_letterAt_17 rfl rfl ?_
  obtain ⟨k8, hf⟩ := hf
  obtain ⟨b9, e10, hf⟩ := hf
  refine g573 h dX1_letterAt_18 k8 e10 ?_
  obtain ⟨k11, hf⟩ := hf
  obtain ⟨b12, e13, hf⟩ := hf
  refine g329 h dX1_letterAt_21 k11 e13 ?_
  refine r_iload_n h 1 dX1_letterAt_24 rfl rfl ?_
  obtain ⟨j14, b15, e16, hf⟩ := hf
  refine r_aaload h 8 (by decide) (by decide) dX1_letterAt_25 j14 (v := .ref b15) (by rw [e16]; rfl) ?_
  exact r_areturn h hq dX1_letterAt_26 ⟨_, rfl, hf⟩
theorem c1261 {l : Launch} {G : gG} {X : gX} {cc : ByteArray} {nL F L bc bs pc : Nat} {M : gM} {lv : List (Nat × Value)} {rest : List Value} {a0 : Nat} {a1 : Int32} {K : Nat → gM → Prop} {KX : Addr → String → gM → Prop} (hl : l.stackTraces = false) (h : hX l G X cc nL "GlacierMail" F L) (d : decode cc pc = .ok (.invokevirtual 250, 3)) (hk : kd M a0 = some (.inl 1)) (hf : f_X1_letterAt a0 a1 M K KX) (hst : (rest.map fun v => v.category).sum ≤ 8) (hF : 14 ≤ F) (hL : 241 ≤ L) (h1 : 1 ≤ bc) (h2 : 6 ≤ bs) (kk : ∀ x M1, K x M1 → V l G X (bc - 1) (bs - 6) M1 (pc + 3) lv (.ref x :: rest)) (kx : ∀ q E M1, KX q E M1 → VX l G X (bc - 1) (bs - 6) M1 pc lv q E) : V l G X bc bs M pc lv (.int a1 :: .ref a0 :: rest) := r_callV (n := 1) (As := [.int a1]) h (m_X1_letterAt hl hf) 1 rfl hk rfl ⟨by decide, by decide, by decide +kernel⟩ d q1261 q1263 qs34 q135 q1264 rfl rfl hst hF hL h1 h2 (kA_go kk) kx
def f_X9_outYear (a0 : Nat) (M : gM) (K : Int32 → gM → Prop) : Prop :=
  kd M a0 = some (.inl 9) ∧ if (iv M a0 3) = 2147483647 then K (-1) M else K (iv M a0 3) M
set_option maxHeartbeats 4000000 in
theorem m_X9_outYear {l : Launch} (hl : l.stackTraces = false) {G : gG} {a0 : Nat} {M : gM} {K : Int32 → gM → Prop} (hf : f_X9_outYear a0 M K) : gMet l G yX9_outYear (ws_ yX9_outYear cX9_outYear 1 (some Jvm.ClassFile.FieldType.int)) ({ frames := 0, cells := 0, slots := 0, locals := 0 }) M [.ref a0] (kI K) kN := by
  refine gm_of hl (ret := (some Jvm.ClassFile.FieldType.int)) rfl (Nat.le_of_ble_eq_true rfl) (fun X h hq => ?_)
  have h : hX l G X cX9_outYear 1 "GlacierMail$Trip" 0 0 := h
  have hf := hf
  show V l G X 0 0 M 0 [(0, .ref a0)] []
  unfold f_X9_outYear at hf
  refine r_aload_n h 0 dX9_outYear_0 rfl rfl ?_
  obtain ⟨k1, hf⟩ := hf
  refine g558 h dX9_outYear_1 k1 ?_
  refine r_ldc (v := 2147483647) h dX9_outYear_4 q661 ?_
  refine r_icmp_ne (tgt := 13) h dX9_outYear_6 (by decide) (fun c2 => ?_) (fun c2 => ?_)
  · have hf := ite_f c2 hf
    refine r_aload_n h 0 dX9_outYear_13 rfl rfl ?_
    refine g558 h dX9_outYear_14 k1 ?_
    exact r_ireturn h hq dX9_outYear_17 ⟨_, rfl, hf⟩
  · have hf := ite_t c2 hf
    refine r_iconst (v := (-1)) h dX9_outYear_9 (by decide) ?_
    refine r_goto (tgt := 17) h dX9_outYear_10 (by decide) ?_
    exact r_ireturn h hq dX9_outYear_17 ⟨_, rfl, hf⟩
theorem c1265 {l : Launch} {G : gG} {X : gX} {cc : ByteArray} {nL F L bc bs pc : Nat} {M : gM} {lv : List (Nat × Value)} {rest : List Value} {a0 : Nat} {K : Int32 → gM → Prop} (hl : l.stackTraces = false) (h : hX l G X cc nL "GlacierMail" F L) (d : decode cc pc = .ok (.invokevirtual 259, 3)) (hk : kd M a0 = some (.inl 9)) (hf : f_X9_outYear a0 M K) (hst : (rest.map fun v => v.category).sum ≤ 8) (hF : 1 ≤ F) (hL : 20 ≤ L) (kk : ∀ x M1, K x M1 → V l G X bc bs M1 (pc + 3) lv (.int x :: rest)) : V l G X bc bs M pc lv (.ref a0 :: rest) := r_callV (n := 0) (As := []) h (m_X9_outYear hl hf) 9 rfl hk rfl ⟨by decide, by decide, by decide +kernel⟩ d q1265 q1266 q1267 q146 q1268 rfl rfl hst hF hL (Nat.zero_le _) (Nat.zero_le _) (kI_go kk) kN_go
def f_X1_deepOut (a0 : Nat) (a1 : Nat) (M : gM) (K : Int32 → gM → Prop) : Prop :=
  kd M a0 = some (.inl 1) ∧ ∃ b2, rv M a0 4 = some b2 ∧ kd M b2 = some (.inl 9) ∧ f_X9_of b2 a1 M (fun b6 M5 => kd M5 b6 = some (.inl 9) ∧ if (iv M5 b6 3) = 2147483647 then K (-1) M5 else ∃ b9, rv M5 b6 1 = some b9 ∧ inA M5 b9 0 (iv M5 b6 3) ∧ K (iv M5 b9 (ix (iv M5 b6 3))) M5)
set_option maxHeartbeats 4000000 in
theorem m_X1_deepOut {l : Launch} (hl : l.stackTraces = false) {G : gG} {a0 : Nat} {a1 : Nat} {M : gM} {K : Int32 → gM → Prop} (hf : f_X1_deepOut a0 a1 M K) : gMet l G yX1_deepOut (ws_ yX1_deepOut cX1_deepOut 3 (some Jvm.ClassFile.FieldType.int)) ({ frames := 29, cells := 0, slots := 0, locals := 647 }) M [.ref a0, .ref a1] (kI K) kN := by
  refine gm_of hl (ret := (some Jvm.ClassFile.FieldType.int)) rfl (Nat.le_of_ble_eq_true rfl) (fun X h hq => ?_)
  have h : hX l G X cX1_deepOut 3 "GlacierMail" 29 647 := h
  have hf := hf
  show V l G X 0 0 M 0 [(0, .ref a0), (1, .ref a1)] []
  unfold f_X1_deepOut at hf
  refine r_aload_n h 0 dX1_deepOut_0 rfl rfl ?_
  obtain ⟨k1, hf⟩ := hf
  obtain ⟨b2, e3, hf⟩ := hf
  refine g577 h dX1_deepOut_1 k1 e3 ?_
  refine r_aload_n h 1 dX1_deepOut_4 rfl rfl ?_
  obtain ⟨k4, hf⟩ := hf
  refine c649 hl h dX1_deepOut_5 k4 hf (Nat.le_of_ble_eq_true rfl) (by decide) (by decide) (fun b6 M5 hf => ?_)
  refine r_astore_n (lv' := [(2, .ref b6), (0, .ref a0), (1, .ref a1)]) h dX1_deepOut_8 rfl (by decide) rfl ?_
  refine r_aload_n h 0 dX1_deepOut_9 rfl rfl ?_
  obtain ⟨k7, hf⟩ := hf
  refine g559 h dX1_deepOut_10 k7 ?_
  refine r_ldc (v := 2147483647) h dX1_deepOut_13 q743 ?_
  refine r_icmp_ne (tgt := 22) h dX1_deepOut_15 (by decide) (fun c8 => ?_) (fun c8 => ?_)
  · have hf := ite_f c8 hf
    refine r_aload_n h 0 dX1_deepOut_22 rfl rfl ?_
    obtain ⟨b9, e10, hf⟩ := hf
    refine g555 h dX1_deepOut_23 k7 e10 ?_
    refine r_aload_n h 0 dX1_deepOut_26 rfl rfl ?_
    refine g559 h dX1_deepOut_27 k7 ?_
    obtain ⟨j11, hf⟩ := hf
    refine r_iaload h dX1_deepOut_30 j11 ?_
    exact r_ireturn h hq dX1_deepOut_31 ⟨_, rfl, hf⟩
  · have hf := ite_t c8 hf
    refine r_iconst (v := (-1)) h dX1_deepOut_18 (by decide) ?_
    refine r_goto (tgt := 31) h dX1_deepOut_19 (by decide) ?_
    exact r_ireturn h hq dX1_deepOut_31 ⟨_, rfl, hf⟩
theorem c1269 {l : Launch} {G : gG} {X : gX} {cc : ByteArray} {nL F L bc bs pc : Nat} {M : gM} {lv : List (Nat × Value)} {rest : List Value} {a0 : Nat} {a1 : Nat} {K : Int32 → gM → Prop} (hl : l.stackTraces = false) (h : hX l G X cc nL "GlacierMail" F L) (d : decode cc pc = .ok (.invokevirtual 262, 3)) (hk : kd M a0 = some (.inl 1)) (hf : f_X1_deepOut a0 a1 M K) (hst : (rest.map fun v => v.category).sum ≤ 8) (hF : 30 ≤ F) (hL : 669 ≤ L) (kk : ∀ x M1, K x M1 → V l G X bc bs M1 (pc + 3) lv (.int x :: rest)) : V l G X bc bs M pc lv (.ref a1 :: .ref a0 :: rest) := r_callV (n := 1) (As := [.ref a1]) h (m_X1_deepOut hl hf) 1 rfl hk rfl ⟨by decide, by decide, by decide +kernel⟩ d q1269 q1271 qs35 q135 q1272 rfl rfl hst hF hL (Nat.zero_le _) (Nat.zero_le _) (kI_go kk) kN_go
def f_X9_isIn (a0 : Nat) (a1 : Int32) (M : gM) (K : Int32 → gM → Prop) : Prop :=
  kd M a0 = some (.inl 9) ∧ if a1 < (iv M a0 2) then K 0 M else if (iv M a0 3) ≤ a1 then K 0 M else K 1 M
set_option maxHeartbeats 4000000 in
theorem m_X9_isIn {l : Launch} (hl : l.stackTraces = false) {G : gG} {a0 : Nat} {a1 : Int32} {M : gM} {K : Int32 → gM → Prop} (hf : f_X9_isIn a0 a1 M K) : gMet l G yX9_isIn (ws_ yX9_isIn cX9_isIn 2 (some Jvm.ClassFile.FieldType.boolean)) ({ frames := 0, cells := 0, slots := 0, locals := 0 }) M [.ref a0, .int a1] (kI K) kN := by
  refine gm_of hl (ret := (some Jvm.ClassFile.FieldType.boolean)) rfl (Nat.le_of_ble_eq_true rfl) (fun X h hq => ?_)
  have h : hX l G X cX9_isIn 2 "GlacierMail$Trip" 0 0 := h
  have hf := hf
  show V l G X 0 0 M 0 [(0, .ref a0), (1, .int a1)] []
  unfold f_X9_isIn at hf
  refine r_iload_n h 1 dX9_isIn_0 rfl rfl ?_
  refine r_aload_n h 0 dX9_isIn_1 rfl rfl ?_
  obtain ⟨k1, hf⟩ := hf
  refine g556 h dX9_isIn_2 k1 ?_
  refine r_icmp_lt (tgt := 20) h dX9_isIn_5 (by decide) (fun c2 => ?_) (fun c2 => ?_)
  · have hf := ite_t c2 hf
    refine r_iconst (v := 0) h dX9_isIn_20 (by decide) ?_
    exact r_zreturn h hq dX9_isIn_21 (by decide) ⟨_, rfl, hf⟩
  · have hf := ite_f c2 hf
    refine r_iload_n h 1 dX9_isIn_8 rfl rfl ?_
    refine r_aload_n h 0 dX9_isIn_9 rfl rfl ?_
    refine g558 h dX9_isIn_10 k1 ?_
    refine r_icmp_ge (tgt := 20) h dX9_isIn_13 (by decide) (fun c3 => ?_) (fun c3 => ?_)
    · have hf := ite_t c3 hf
      refine r_iconst (v := 0) h dX9_isIn_20 (by decide) ?_
      exact r_zreturn h hq dX9_isIn_21 (by decide) ⟨_, rfl, hf⟩
    · have hf := ite_f c3 hf
      refine r_iconst (v := 1) h dX9_isIn_16 (by decide) ?_
      refine r_goto (tgt := 21) h dX9_isIn_17 (by decide) ?_
      exact r_zreturn h hq dX9_isIn_21 (by decide) ⟨_, rfl, hf⟩
theorem c815 {l : Launch} {G : gG} {X : gX} {cc : ByteArray} {nL F L bc bs pc : Nat} {M : gM} {lv : List (Nat × Value)} {rest : List Value} {a0 : Nat} {a1 : Int32} {K : Int32 → gM → Prop} (hl : l.stackTraces = false) (h : hX l G X cc nL "GlacierMail" F L) (d : decode cc pc = .ok (.invokevirtual 327, 3)) (hk : kd M a0 = some (.inl 9)) (hf : f_X9_isIn a0 a1 M K) (hst : (rest.map fun v => v.category).sum ≤ 8) (hF : 1 ≤ F) (hL : 21 ≤ L) (kk : ∀ x M1, K x M1 → V l G X bc bs M1 (pc + 3) lv (.int x :: rest)) : V l G X bc bs M pc lv (.int a1 :: .ref a0 :: rest) := r_callV (n := 1) (As := [.int a1]) h (m_X9_isIn hl hf) 9 rfl hk rfl ⟨by decide, by decide, by decide +kernel⟩ d q815 q816 q817 q146 q818 rfl rfl hst hF hL (Nat.zero_le _) (Nat.zero_le _) (kI_go kk) kN_go
theorem c1281 {l : Launch} {G : gG} {X : gX} {cc : ByteArray} {nL F L bc bs pc : Nat} {M : gM} {lv : List (Nat × Value)} {rest : List Value} {a0 : Nat} {a1 : Int32} {K : Int32 → gM → Prop} (hl : l.stackTraces = false) (h : hX l G X cc nL "GlacierMail$Trip" F L) (d : decode cc pc = .ok (.invokevirtual 74, 3)) (hk : kd M a0 = some (.inl 9)) (hf : f_X9_isIn a0 a1 M K) (hst : (rest.map fun v => v.category).sum ≤ 8) (hF : 1 ≤ F) (hL : 21 ≤ L) (kk : ∀ x M1, K x M1 → V l G X bc bs M1 (pc + 3) lv (.int x :: rest)) : V l G X bc bs M pc lv (.int a1 :: .ref a0 :: rest) := r_callV (n := 1) (As := [.int a1]) h (m_X9_isIn hl hf) 9 rfl hk rfl ⟨by decide, by decide, by decide +kernel⟩ d q1281 q816 q817 q146 q818 rfl rfl hst hF hL (Nat.zero_le _) (Nat.zero_le _) (kI_go kk) kN_go
def f_X9_isBare (a0 : Nat) (a1 : Int32) (M : gM) (K : Int32 → gM → Prop) : Prop :=
  kd M a0 = some (.inl 9) ∧ if a1 ≤ (iv M a0 2) then K 0 M else f_X9_isIn a0 a1 M (fun x4 M3 => if x4 = 0 then K 0 M3 else kd M3 a0 = some (.inl 9) ∧ ∃ b7, rv M3 a0 1 = some b7 ∧ inA M3 b7 0 a1 ∧ if (iv M3 b7 (ix a1)) = 0 then K 1 M3 else K 0 M3)
set_option maxHeartbeats 4000000 in
theorem m_X9_isBare {l : Launch} (hl : l.stackTraces = false) {G : gG} {a0 : Nat} {a1 : Int32} {M : gM} {K : Int32 → gM → Prop} (hf : f_X9_isBare a0 a1 M K) : gMet l G yX9_isBare (ws_ yX9_isBare cX9_isBare 2 (some Jvm.ClassFile.FieldType.boolean)) ({ frames := 1, cells := 0, slots := 0, locals := 21 }) M [.ref a0, .int a1] (kI K) kN := by
  refine gm_of hl (ret := (some Jvm.ClassFile.FieldType.boolean)) rfl (Nat.le_of_ble_eq_true rfl) (fun X h hq => ?_)
  have h : hX l G X cX9_isBare 2 "GlacierMail$Trip" 1 21 := h
  have hf := hf
  show V l G X 0 0 M 0 [(0, .ref a0), (1, .int a1)] []
  unfold f_X9_isBare at hf
  refine r_iload_n h 1 dX9_isBare_0 rfl rfl ?_
  refine r_aload_n h 0 dX9_isBare_1 rfl rfl ?_
  obtain ⟨k1, hf⟩ := hf
  refine g556 h dX9_isBare_2 k1 ?_
  refine r_icmp_le (tgt := 29) h dX9_isBare_5 (by decide) (fun c2 => ?_) (fun c2 => ?_)
  · have hf := ite_t c2 hf
    refine r_iconst (v := 0) h dX9_isBare_29 (by decide) ?_
    exact r_zreturn h hq dX9_isBare_30 (by decide) ⟨_, rfl, hf⟩
  · have hf := ite_f c2 hf
    refine r_aload_n h 0 dX9_isBare_8 rfl rfl ?_
    refine r_iload_n h 1 dX9_isBare_9 rfl rfl ?_
    refine c1281 hl h dX9_isBare_10 k1 hf (Nat.le_of_ble_eq_true rfl) (by decide) (by decide) (fun x4 M3 hf => ?_)
    refine r_if_eq (tgt := 29) h dX9_isBare_13 (by decide) (fun c5 => ?_) (fun c5 => ?_)
    · have hf := ite_t c5 hf
      refine r_iconst (v := 0) h dX9_isBare_29 (by decide) ?_
      exact r_zreturn h hq dX9_isBare_30 (by decide) ⟨_, rfl, hf⟩
    · have hf := ite_f c5 hf
      refine r_aload_n h 0 dX9_isBare_16 rfl rfl ?_
      obtain ⟨k6, hf⟩ := hf
      obtain ⟨b7, e8, hf⟩ := hf
      refine g554 h dX9_isBare_17 k6 e8 ?_
      refine r_iload_n h 1 dX9_isBare_20 rfl rfl ?_
      obtain ⟨j9, hf⟩ := hf
      refine r_iaload h dX9_isBare_21 j9 ?_
      refine r_if_ne (tgt := 29) h dX9_isBare_22 (by decide) (fun c10 => ?_) (fun c10 => ?_)
      · have hf := ite_f c10 hf
        refine r_iconst (v := 0) h dX9_isBare_29 (by decide) ?_
        exact r_zreturn h hq dX9_isBare_30 (by decide) ⟨_, rfl, hf⟩
      · have hf := ite_t c10 hf
        refine r_iconst (v := 1) h dX9_isBare_25 (by decide) ?_
        refine r_goto (tgt := 30) h dX9_isBare_26 (by decide) ?_
        exact r_zreturn h hq dX9_isBare_30 (by decide) ⟨_, rfl, hf⟩
theorem c1277 {l : Launch} {G : gG} {X : gX} {cc : ByteArray} {nL F L bc bs pc : Nat} {M : gM} {lv : List (Nat × Value)} {rest : List Value} {a0 : Nat} {a1 : Int32} {K : Int32 → gM → Prop} (hl : l.stackTraces = false) (h : hX l G X cc nL "GlacierMail" F L) (d : decode cc pc = .ok (.invokevirtual 242, 3)) (hk : kd M a0 = some (.inl 9)) (hf : f_X9_isBare a0 a1 M K) (hst : (rest.map fun v => v.category).sum ≤ 8) (hF : 2 ≤ F) (hL : 42 ≤ L) (kk : ∀ x M1, K x M1 → V l G X bc bs M1 (pc + 3) lv (.int x :: rest)) : V l G X bc bs M pc lv (.int a1 :: .ref a0 :: rest) := r_callV (n := 1) (As := [.int a1]) h (m_X9_isBare hl hf) 9 rfl hk rfl ⟨by decide, by decide, by decide +kernel⟩ d q1277 q1278 q1279 q146 q1280 rfl rfl hst hF hL (Nat.zero_le _) (Nat.zero_le _) (kI_go kk) kN_go
def f_X1_bareYear (a0 : Nat) (a1 : Nat) (M : gM) (K : Int32 → gM → Prop) : Prop :=
  ∀ P16 : Nat → Int32 → gM → Prop,
  (∀ (v2 : Nat) (v3 : Int32) (M : gM), (if 300 ≤ v3 then K (-1) M else kd M v2 = some (.inl 9) ∧ f_X9_isBare v2 v3 M (fun x11 M10 => if x11 = 0 then P16 v2 (v3 + 1) M10 else K v3 M10)) → P16 v2 v3 M) →
  kd M a0 = some (.inl 1) ∧ ∃ b2, rv M a0 4 = some b2 ∧ kd M b2 = some (.inl 9) ∧ f_X9_of b2 a1 M (fun b6 M5 => kd M5 a1 = some (.inl 7) ∧ P16 b6 ((iv M5 a1 4) + 1) M5)
set_option maxHeartbeats 4000000 in
theorem m_X1_bareYear {l : Launch} (hl : l.stackTraces = false) {G : gG} {a0 : Nat} {a1 : Nat} {M : gM} {K : Int32 → gM → Prop} (hf : f_X1_bareYear a0 a1 M K) : gMet l G yX1_bareYear (ws_ yX1_bareYear cX1_bareYear 4 (some Jvm.ClassFile.FieldType.int)) ({ frames := 29, cells := 0, slots := 0, locals := 647 }) M [.ref a0, .ref a1] (kI K) kN := by
  refine gm_of hl (ret := (some Jvm.ClassFile.FieldType.int)) rfl (Nat.le_of_ble_eq_true rfl) (fun X h hq => ?_)
  have h : hX l G X cX1_bareYear 4 "GlacierMail" 29 647 := h
  have hf := hf
  show V l G X 0 0 M 0 [(0, .ref a0), (1, .ref a1)] []
  have hf := hf
    (fun v2 v3 M => V l G X 0 0 M 16 [(2, .ref v2), (3, .int v3)] [])
    (by
      intro v2 v3 M hf
      show V l G X 0 0 M 16 [(2, .ref v2), (3, .int v3)] []
      refine r_iload_n h 1 dX1_bareYear_16 rfl rfl ?_
      refine r_sipush (v := 300) h dX1_bareYear_17 (by decide) ?_
      refine r_icmp_ge (tgt := 39) h dX1_bareYear_20 (by decide) (fun c8 => ?_) (fun c8 => ?_)
      · have hf := ite_t c8 hf
        refine r_iconst (v := (-1)) h dX1_bareYear_39 (by decide) ?_
        exact r_ireturn h hq dX1_bareYear_40 ⟨_, rfl, hf⟩
      · have hf := ite_f c8 hf
        refine r_aload_n h 0 dX1_bareYear_23 rfl rfl ?_
        refine r_iload_n h 1 dX1_bareYear_24 rfl rfl ?_
        obtain ⟨k9, hf⟩ := hf
        refine c1277 hl h dX1_bareYear_25 k9 hf (Nat.le_of_ble_eq_true rfl) (by decide) (by decide) (fun x11 M10 hf => ?_)
        refine r_if_eq (tgt := 33) h dX1_bareYear_28 (by decide) (fun c12 => ?_) (fun c12 => ?_)
        · have hf := ite_t c12 hf
          refine r_iinc (v := v3 + 1) (lv' := [(3, .int (v3 + 1)), (2, .ref v2)]) h 1 dX1_bareYear_33 rfl rfl (by decide) rfl ?_
          refine r_goto (tgt := 16) h dX1_bareYear_36 (by decide) ?_
          exact V.sub [1, 0] rfl hf
        · have hf := ite_f c12 hf
          refine r_iload_n h 1 dX1_bareYear_31 rfl rfl ?_
          exact r_ireturn h hq dX1_bareYear_32 ⟨_, rfl, hf⟩)
  refine r_aload_n h 0 dX1_bareYear_0 rfl rfl ?_
  obtain ⟨k1, hf⟩ := hf
  obtain ⟨b2, e3, hf⟩ := hf
  refine g577 h dX1_bareYear_1 k1 e3 ?_
  refine r_aload_n h 1 dX1_bareYear_4 rfl rfl ?_
  obtain ⟨k4, hf⟩ := hf
  refine c649 hl h dX1_bareYear_5 k4 hf (Nat.le_of_ble_eq_true rfl) (by decide) (by decide) (fun b6 M5 hf => ?_)
  refine r_astore_n (lv' := [(2, .ref b6), (0, .ref a0), (1, .ref a1)]) h dX1_bareYear_8 rfl (by decide) rfl ?_
  refine r_aload_n h 2 dX1_bareYear_9 rfl rfl ?_
  obtain ⟨k7, hf⟩ := hf
  refine g293 h dX1_bareYear_10 k7 ?_
  refine r_iconst (v := 1) h dX1_bareYear_13 (by decide) ?_
  refine r_iadd h dX1_bareYear_14 ?_
  refine r_istore_n (lv' := [(3, .int ((iv M5 a1 4) + 1)), (2, .ref b6), (0, .ref a0), (1, .ref a1)]) h dX1_bareYear_15 rfl (by decide) rfl ?_
  exact V.sub [1, 0] rfl hf
theorem c1273 {l : Launch} {G : gG} {X : gX} {cc : ByteArray} {nL F L bc bs pc : Nat} {M : gM} {lv : List (Nat × Value)} {rest : List Value} {a0 : Nat} {a1 : Nat} {K : Int32 → gM → Prop} (hl : l.stackTraces = false) (h : hX l G X cc nL "GlacierMail" F L) (d : decode cc pc = .ok (.invokevirtual 266, 3)) (hk : kd M a0 = some (.inl 1)) (hf : f_X1_bareYear a0 a1 M K) (hst : (rest.map fun v => v.category).sum ≤ 8) (hF : 30 ≤ F) (hL : 670 ≤ L) (kk : ∀ x M1, K x M1 → V l G X bc bs M1 (pc + 3) lv (.int x :: rest)) : V l G X bc bs M pc lv (.ref a1 :: .ref a0 :: rest) := r_callV (n := 1) (As := [.ref a1]) h (m_X1_bareYear hl hf) 1 rfl hk rfl ⟨by decide, by decide, by decide +kernel⟩ d q1273 q1275 qs36 q135 q1276 rfl rfl hst hF hL (Nat.zero_le _) (Nat.zero_le _) (kI_go kk) kN_go
def f_X1_letter (a0 : Nat) (a1 : Int32) (a2 : Int32) (M : gM) (K : Int32 → gM → Prop) (KX : Addr → String → gM → Prop) : Prop :=
  kd M a0 = some (.inl 1) ∧ f_X1_letterAt a0 a1 M (fun b3 M2 => if a2 = 0 then kd M2 b3 = some (.inl 7) ∧ K (iv M2 b3 0) M2 else if a2 = 1 then kd M2 b3 = some (.inl 7) ∧ K (iv M2 b3 1) M2 else if a2 = 2 then kd M2 b3 = some (.inl 7) ∧ K (iv M2 b3 2) M2 else if a2 = 3 then kd M2 b3 = some (.inl 7) ∧ K (iv M2 b3 4) M2 else if a2 = 4 then kd M2 b3 = some (.inl 7) ∧ K (iv M2 b3 3) M2 else if a2 = 5 then kd M2 b3 = some (.inl 7) ∧ K (iv M2 b3 5) M2 else if a2 = 6 then kd M2 b3 = some (.inl 7) ∧ K (iv M2 b3 6) M2 else if a2 = 7 then kd M2 a0 = some (.inl 1) ∧ ∃ b20, rv M2 a0 4 = some b20 ∧ kd M2 b20 = some (.inl 9) ∧ f_X9_of b20 b3 M2 (fun b24 M23 => kd M23 b24 = some (.inl 9) ∧ f_X9_outYear b24 M23 (fun x27 M26 => K x27 M26)) else if a2 = 8 then kd M2 a0 = some (.inl 1) ∧ f_X1_deepOut a0 b3 M2 (fun x31 M30 => K x31 M30) else if a2 = 9 then kd M2 a0 = some (.inl 1) ∧ f_X1_bareYear a0 b3 M2 (fun x35 M34 => K x35 M34) else ∀ n36, sz M2 ≤ n36 → KX (sz M2) "java/util/NoSuchElementException" (sZ M2 n36)) KX
set_option maxHeartbeats 4000000 in
theorem m_X1_letter {l : Launch} (hl : l.stackTraces = false) {G : gG} {a0 : Nat} {a1 : Int32} {a2 : Int32} {M : gM} {K : Int32 → gM → Prop} {KX : Addr → String → gM → Prop} (hf : f_X1_letter a0 a1 a2 M K KX) : gMet l G yX1_letter (ws_ yX1_letter cX1_letter 4 (some Jvm.ClassFile.FieldType.int)) ({ frames := 30, cells := 2, slots := 12, locals := 670 }) M [.ref a0, .int a1, .int a2] (kI K) KX := by
  refine gm_of hl (ret := (some Jvm.ClassFile.FieldType.int)) rfl (Nat.le_of_ble_eq_true rfl) (fun X h hq => ?_)
  have h : hX l G X cX1_letter 4 "GlacierMail" 30 670 := h
  have hf := hf
  show V l G X 2 12 M 0 [(0, .ref a0), (1, .int a1), (2, .int a2)] []
  unfold f_X1_letter at hf
  refine r_aload_n h 0 dX1_letter_0 rfl rfl ?_
  refine r_iload_n h 1 dX1_letter_1 rfl rfl ?_
  obtain ⟨k1, hf⟩ := hf
  refine c1261 hl h dX1_letter_2 k1 hf (Nat.le_of_ble_eq_true rfl) (by decide) (by decide) (by decide) (by decide) (fun b3 M2 hf => ?_) (fun q9 E9 M9 hf => r_out h hq hf)
  refine r_astore_n (lv' := [(3, .ref b3), (0, .ref a0), (1, .int a1), (2, .int a2)]) h dX1_letter_5 rfl (by decide) rfl ?_
  refine r_iload_n h 3 dX1_letter_6 rfl rfl ?_
  by_cases c4 : a2 = 0
  · have hf := ite_t c4 hf
    refine r_tableIn (off := 53) (tgt := 60) h dX1_letter_7 (by rw [c4]; decide) (by rw [c4]; decide) (by rw [c4]; rfl) (by decide) ?_
    refine r_aload_n h 0 dX1_letter_60 rfl rfl ?_
    obtain ⟨k5, hf⟩ := hf
    refine g280 h dX1_letter_61 k5 ?_
    exact r_ireturn h hq dX1_letter_64 ⟨_, rfl, hf⟩
  have hf := ite_f c4 hf
  by_cases c6 : a2 = 1
  · have hf := ite_t c6 hf
    refine r_tableIn (off := 58) (tgt := 65) h dX1_letter_7 (by rw [c6]; decide) (by rw [c6]; decide) (by rw [c6]; rfl) (by decide) ?_
    refine r_aload_n h 0 dX1_letter_65 rfl rfl ?_
    obtain ⟨k7, hf⟩ := hf
    refine g282 h dX1_letter_66 k7 ?_
    exact r_ireturn h hq dX1_letter_69 ⟨_, rfl, hf⟩
  have hf := ite_f c6 hf
  by_cases c8 : a2 = 2
  · have hf := ite_t c8 hf
    refine r_tableIn (off := 63) (tgt := 70) h dX1_letter_7 (by rw [c8]; decide) (by rw [c8]; decide) (by rw [c8]; rfl) (by decide) ?_
    refine r_aload_n h 0 dX1_letter_70 rfl rfl ?_
    obtain ⟨k9, hf⟩ := hf
    refine g286 h dX1_letter_71 k9 ?_
    exact r_ireturn h hq dX1_letter_74 ⟨_, rfl, hf⟩
  have hf := ite_f c8 hf
  by_cases c10 : a2 = 3
  · have hf := ite_t c10 hf
    refine r_tableIn (off := 68) (tgt := 75) h dX1_letter_7 (by rw [c10]; decide) (by rw [c10]; decide) (by rw [c10]; rfl) (by decide) ?_
    refine r_aload_n h 0 dX1_letter_75 rfl rfl ?_
    obtain ⟨k11, hf⟩ := hf
    refine g293 h dX1_letter_76 k11 ?_
    exact r_ireturn h hq dX1_letter_79 ⟨_, rfl, hf⟩
  have hf := ite_f c10 hf
  by_cases c12 : a2 = 4
  · have hf := ite_t c12 hf
    refine r_tableIn (off := 73) (tgt := 80) h dX1_letter_7 (by rw [c12]; decide) (by rw [c12]; decide) (by rw [c12]; rfl) (by decide) ?_
    refine r_aload_n h 0 dX1_letter_80 rfl rfl ?_
    obtain ⟨k13, hf⟩ := hf
    refine g289 h dX1_letter_81 k13 ?_
    exact r_ireturn h hq dX1_letter_84 ⟨_, rfl, hf⟩
  have hf := ite_f c12 hf
  by_cases c14 : a2 = 5
  · have hf := ite_t c14 hf
    refine r_tableIn (off := 78) (tgt := 85) h dX1_letter_7 (by rw [c14]; decide) (by rw [c14]; decide) (by rw [c14]; rfl) (by decide) ?_
    refine r_aload_n h 0 dX1_letter_85 rfl rfl ?_
    obtain ⟨k15, hf⟩ := hf
    refine g296 h dX1_letter_86 k15 ?_
    exact r_ireturn h hq dX1_letter_89 ⟨_, rfl, hf⟩
  have hf := ite_f c14 hf
  by_cases c16 : a2 = 6
  · have hf := ite_t c16 hf
    refine r_tableIn (off := 83) (tgt := 90) h dX1_letter_7 (by rw [c16]; decide) (by rw [c16]; decide) (by rw [c16]; rfl) (by decide) ?_
    refine r_aload_n h 0 dX1_letter_90 rfl rfl ?_
    obtain ⟨k17, hf⟩ := hf
    refine g299 h dX1_letter_91 k17 ?_
    exact r_ireturn h hq dX1_letter_94 ⟨_, rfl, hf⟩
  have hf := ite_f c16 hf
  by_cases c18 : a2 = 7
  · have hf := ite_t c18 hf
    refine r_tableIn (off := 88) (tgt := 95) h dX1_letter_7 (by rw [c18]; decide) (by rw [c18]; decide) (by rw [c18]; rfl) (by decide) ?_
    refine r_aload_n h 1 dX1_letter_95 rfl rfl ?_
    obtain ⟨k19, hf⟩ := hf
    obtain ⟨b20, e21, hf⟩ := hf
    refine g577 h dX1_letter_96 k19 e21 ?_
    refine r_aload_n h 0 dX1_letter_99 rfl rfl ?_
    obtain ⟨k22, hf⟩ := hf
    refine c649 hl h dX1_letter_100 k22 hf (Nat.le_of_ble_eq_true rfl) (by decide) (by decide) (fun b24 M23 hf => ?_)
    obtain ⟨k25, hf⟩ := hf
    refine c1265 hl h dX1_letter_103 k25 hf (Nat.le_of_ble_eq_true rfl) (by decide) (by decide) (fun x27 M26 hf => ?_)
    exact r_ireturn h hq dX1_letter_106 ⟨_, rfl, hf⟩
  have hf := ite_f c18 hf
  by_cases c28 : a2 = 8
  · have hf := ite_t c28 hf
    refine r_tableIn (off := 100) (tgt := 107) h dX1_letter_7 (by rw [c28]; decide) (by rw [c28]; decide) (by rw [c28]; rfl) (by decide) ?_
    refine r_aload_n h 1 dX1_letter_107 rfl rfl ?_
    refine r_aload_n h 0 dX1_letter_108 rfl rfl ?_
    obtain ⟨k29, hf⟩ := hf
    refine c1269 hl h dX1_letter_109 k29 hf (Nat.le_of_ble_eq_true rfl) (by decide) (by decide) (fun x31 M30 hf => ?_)
    exact r_ireturn h hq dX1_letter_112 ⟨_, rfl, hf⟩
  have hf := ite_f c28 hf
  by_cases c32 : a2 = 9
  · have hf := ite_t c32 hf
    refine r_tableIn (off := 106) (tgt := 113) h dX1_letter_7 (by rw [c32]; decide) (by rw [c32]; decide) (by rw [c32]; rfl) (by decide) ?_
    refine r_aload_n h 1 dX1_letter_113 rfl rfl ?_
    refine r_aload_n h 0 dX1_letter_114 rfl rfl ?_
    obtain ⟨k33, hf⟩ := hf
    refine c1273 hl h dX1_letter_115 k33 hf (Nat.le_of_ble_eq_true rfl) (by decide) (by decide) (fun x35 M34 hf => ?_)
    exact r_ireturn h hq dX1_letter_118 ⟨_, rfl, hf⟩
  have hf := ite_f c32 hf
  refine r_tableOut (tgt := 119) h dX1_letter_7 (gSw0_10 c4 c6 c8 c10 c12 c14 c16 c18 c28 c32) (by decide) ?_
  exact x1239 h hq dX1_letter_119 dX1_letter_122 dX1_letter_123 dX1_letter_126 (by decide) (by decide) (by decide) (by decide) (Nat.le_of_ble_eq_true rfl) (fun n36 hn => hf n36 hn)
theorem c1257 {l : Launch} {G : gG} {X : gX} {cc : ByteArray} {nL F L bc bs pc : Nat} {M : gM} {lv : List (Nat × Value)} {rest : List Value} {a0 : Nat} {a1 : Int32} {a2 : Int32} {K : Int32 → gM → Prop} {KX : Addr → String → gM → Prop} (hl : l.stackTraces = false) (h : hX l G X cc nL "GlacierMailLaw" F L) (d : decode cc pc = .ok (.invokevirtual 39, 3)) (hk : kd M a0 = some (.inl 1)) (hf : f_X1_letter a0 a1 a2 M K KX) (hst : (rest.map fun v => v.category).sum ≤ 8) (hF : 31 ≤ F) (hL : 693 ≤ L) (h1 : 2 ≤ bc) (h2 : 12 ≤ bs) (kk : ∀ x M1, K x M1 → V l G X (bc - 2) (bs - 12) M1 (pc + 3) lv (.int x :: rest)) (kx : ∀ q E M1, KX q E M1 → VX l G X (bc - 2) (bs - 12) M1 pc lv q E) : V l G X bc bs M pc lv (.int a2 :: .int a1 :: .ref a0 :: rest) := r_callV (n := 2) (As := [.int a1, .int a2]) h (m_X1_letter hl hf) 1 rfl hk rfl ⟨by decide, by decide, by decide +kernel⟩ d q1257 q1258 q1259 q135 q1260 rfl rfl hst hF hL h1 h2 (kI_go kk) kx
def f_X0_letter (a0 : Nat) (a1 : Int32) (a2 : Int32) (a3 : Nat) (M : gM) (K : Int32 → gM → Prop) : Prop :=
  kd M a0 = some (.inl 1) ∧ f_X1_letter a0 a1 a2 M (fun x3 M2 => inA M2 a3 2 0 ∧ ∀ M5, M5 = sJ M2 a3 (ix 0) (x3.toInt64) → K 0 M5) (fun q9 E9 M9 => (E9 = "java/lang/IndexOutOfBoundsException" ∧ K 1 M9) ∨ (E9 = "java/util/NoSuchElementException" ∧ K 2 M9))
set_option maxHeartbeats 4000000 in
theorem m_X0_letter {l : Launch} (hl : l.stackTraces = false) {G : gG} {a0 : Nat} {a1 : Int32} {a2 : Int32} {a3 : Nat} {M : gM} {K : Int32 → gM → Prop} (hf : f_X0_letter a0 a1 a2 a3 M K) : gMet l G yX0_letter (wsW_ yX0_letter cX0_letter 5 (some Jvm.ClassFile.FieldType.int) [(0, 10, 13, 28), (0, 10, 17, 37)]) ({ frames := 31, cells := 2, slots := 12, locals := 693 }) M [.ref a0, .int a1, .int a2, .ref a3] (kI K) kN := by
  refine gm_ofH hl (ret := (some Jvm.ClassFile.FieldType.int)) rfl (Nat.le_of_ble_eq_true rfl) (fun X h hq => ?_)
  have h : hX l G X cX0_letter 5 "GlacierMailLaw" 31 693 := h
  have hf := hf
  show V l G X 2 12 M 0 [(0, .ref a0), (1, .int a1), (2, .int a2), (3, .ref a3)] []
  unfold f_X0_letter at hf
  refine r_aload_n h 3 dX0_letter_0 rfl rfl ?_
  refine r_iconst (v := 0) h dX0_letter_1 (by decide) ?_
  refine r_aload_n h 0 dX0_letter_2 rfl rfl ?_
  refine r_iload_n h 1 dX0_letter_3 rfl rfl ?_
  refine r_iload_n h 2 dX0_letter_4 rfl rfl ?_
  obtain ⟨k1, hf⟩ := hf
  refine c1257 hl h dX0_letter_5 k1 hf (Nat.le_of_ble_eq_true rfl) (by decide) (by decide) (by decide) (by decide) (fun x3 M2 hf => ?_) (fun q9 E9 M9 hf => ?_)
  · skip
    refine r_i2l h dX0_letter_8 ?_
    obtain ⟨j4, hf⟩ := hf
    refine r_lastore h dX0_letter_9 j4 ?_
    refine r_goW (fun M5 eM5 => ?_)
    have hf := hf M5 eM5
    refine r_goto (tgt := 21) h dX0_letter_10 (by decide) ?_
    refine r_iconst (v := 0) h dX0_letter_21 (by decide) ?_
    exact r_ireturn h hq dX0_letter_22 ⟨_, rfl, hf⟩
  · rcases hf with ⟨rfl, hf⟩ | ⟨rfl, hf⟩
    · refine r_catch h hq 0 (E := "java/lang/IndexOutOfBoundsException") (nm := "java/lang/IndexOutOfBoundsException") rfl (fun z hz => nomatch hz) (by decide) (by decide) q1153 (List.mem_of_getElem? (i := 8) rfl) ?_
      refine r_astore (lv' := [(4, .ref q9), (0, .ref a0), (1, .int a1), (2, .int a2), (3, .ref a3)]) h dX0_letter_13 (by decide) rfl ?_
      refine r_iconst (v := 1) h dX0_letter_15 (by decide) ?_
      exact r_ireturn h hq dX0_letter_16 ⟨_, rfl, hf⟩
    · refine r_catch h hq 1 (E := "java/util/NoSuchElementException") (nm := "java/util/NoSuchElementException") rfl (List.forall_mem_cons.mpr ⟨Or.inr ⟨by decide, "java/lang/IndexOutOfBoundsException", q1153, List.mem_of_getElem? (i := 18) rfl⟩, List.forall_mem_nil _⟩) (by decide) (by decide) q1226 (List.mem_of_getElem? (i := 9) rfl) ?_
      refine r_astore (lv' := [(4, .ref q9), (0, .ref a0), (1, .int a1), (2, .int a2), (3, .ref a3)]) h dX0_letter_17 (by decide) rfl ?_
      refine r_iconst (v := 2) h dX0_letter_19 (by decide) ?_
      exact r_ireturn h hq dX0_letter_20 ⟨_, rfl, hf⟩
theorem c1254 {l : Launch} {G : gG} {X : gX} {cc : ByteArray} {nL F L bc bs pc : Nat} {M : gM} {lv : List (Nat × Value)} {rest : List Value} {a0 : Nat} {a1 : Int32} {a2 : Int32} {a3 : Nat} {K : Int32 → gM → Prop} (hl : l.stackTraces = false) (h : hX l G X cc nL "GlacierMailLaw" F L) (d : decode cc pc = .ok (.invokestatic 180, 3)) (hf : f_X0_letter a0 a1 a2 a3 M K) (hst : (rest.map fun v => v.category).sum ≤ 8) (hF : 32 ≤ F) (hL : 717 ≤ L) (h1 : 2 ≤ bc) (h2 : 12 ≤ bs) (kk : ∀ x M1, K x M1 → V l G X (bc - 2) (bs - 12) M1 (pc + 3) lv (.int x :: rest)) : V l G X bc bs M pc lv (.ref a3 :: .int a2 :: .int a1 :: .ref a0 :: rest) := r_callSH (n := 4) (As := [.ref a0, .int a1, .int a2, .ref a3]) h (m_X0_letter hl hf) ⟨by decide, by decide, by decide +kernel⟩ d q1254 q1255 q134 q1256 rfl rfl hst hF hL h1 h2 (kI_go kk) kN_go
def f_X1_where (a0 : Nat) (a1 : Int32) (a2 : Int32) (M : gM) (K : Int32 → gM → Prop) (KX : Addr → String → gM → Prop) : Prop :=
  kd M a0 = some (.inl 1) ∧ f_X1_letterAt a0 a1 M (fun b3 M2 => f_X1_isYear a2 M2 (fun M4 => kd M4 b3 = some (.inl 7) ∧ if (iv M4 b3 4) ≤ a2 then kd M4 a0 = some (.inl 1) ∧ ∃ b8, rv M4 a0 4 = some b8 ∧ kd M4 b8 = some (.inl 9) ∧ f_X9_of b8 b3 M4 (fun b12 M11 => kd M11 b12 = some (.inl 9) ∧ ∃ b14, rv M11 b12 0 = some b14 ∧ inA M11 b14 0 a2 ∧ K (iv M11 b14 (ix a2)) M11) else K (-1) M4) KX) KX
set_option maxHeartbeats 4000000 in
theorem m_X1_where {l : Launch} (hl : l.stackTraces = false) {G : gG} {a0 : Nat} {a1 : Int32} {a2 : Int32} {M : gM} {K : Int32 → gM → Prop} {KX : Addr → String → gM → Prop} (hf : f_X1_where a0 a1 a2 M K KX) : gMet l G yX1_where (ws_ yX1_where cX1_where 4 (some Jvm.ClassFile.FieldType.int)) ({ frames := 29, cells := 2, slots := 12, locals := 647 }) M [.ref a0, .int a1, .int a2] (kI K) KX := by
  refine gm_of hl (ret := (some Jvm.ClassFile.FieldType.int)) rfl (Nat.le_of_ble_eq_true rfl) (fun X h hq => ?_)
  have h : hX l G X cX1_where 4 "GlacierMail" 29 647 := h
  have hf := hf
  show V l G X 2 12 M 0 [(0, .ref a0), (1, .int a1), (2, .int a2)] []
  unfold f_X1_where at hf
  refine r_aload_n h 0 dX1_where_0 rfl rfl ?_
  refine r_iload_n h 1 dX1_where_1 rfl rfl ?_
  obtain ⟨k1, hf⟩ := hf
  refine c1261 hl h dX1_where_2 k1 hf (Nat.le_of_ble_eq_true rfl) (by decide) (by decide) (by decide) (by decide) (fun b3 M2 hf => ?_) (fun q9 E9 M9 hf => r_out h hq hf)
  refine r_astore_n (lv' := [(3, .ref b3), (0, .ref a0), (1, .int a1), (2, .int a2)]) h dX1_where_5 rfl (by decide) rfl ?_
  refine r_iload_n h 3 dX1_where_6 rfl rfl ?_
  refine c1144 hl h dX1_where_7 hf (Nat.le_of_ble_eq_true rfl) (by decide) (by decide) (by decide) (by decide) (fun M4 hf => ?_) (fun q9 E9 M9 hf => r_out h hq hf)
  refine r_iload_n h 3 dX1_where_10 rfl rfl ?_
  refine r_aload_n h 0 dX1_where_11 rfl rfl ?_
  obtain ⟨k5, hf⟩ := hf
  refine g293 h dX1_where_12 k5 ?_
  refine r_icmp_ge (tgt := 22) h dX1_where_15 (by decide) (fun c6 => ?_) (fun c6 => ?_)
  · have hf := ite_t c6 hf
    refine r_aload_n h 1 dX1_where_22 rfl rfl ?_
    obtain ⟨k7, hf⟩ := hf
    obtain ⟨b8, e9, hf⟩ := hf
    refine g577 h dX1_where_23 k7 e9 ?_
    refine r_aload_n h 0 dX1_where_26 rfl rfl ?_
    obtain ⟨k10, hf⟩ := hf
    refine c649 hl h dX1_where_27 k10 hf (Nat.le_of_ble_eq_true rfl) (by decide) (by decide) (fun b12 M11 hf => ?_)
    obtain ⟨k13, hf⟩ := hf
    obtain ⟨b14, e15, hf⟩ := hf
    refine g553 h dX1_where_30 k13 e15 ?_
    refine r_iload_n h 3 dX1_where_33 rfl rfl ?_
    obtain ⟨j16, hf⟩ := hf
    refine r_iaload h dX1_where_34 j16 ?_
    exact r_ireturn h hq dX1_where_35 ⟨_, rfl, hf⟩
  · have hf := ite_f c6 hf
    refine r_iconst (v := (-1)) h dX1_where_18 (by decide) ?_
    refine r_goto (tgt := 35) h dX1_where_19 (by decide) ?_
    exact r_ireturn h hq dX1_where_35 ⟨_, rfl, hf⟩
theorem c1285 {l : Launch} {G : gG} {X : gX} {cc : ByteArray} {nL F L bc bs pc : Nat} {M : gM} {lv : List (Nat × Value)} {rest : List Value} {a0 : Nat} {a1 : Int32} {a2 : Int32} {K : Int32 → gM → Prop} {KX : Addr → String → gM → Prop} (hl : l.stackTraces = false) (h : hX l G X cc nL "GlacierMailLaw" F L) (d : decode cc pc = .ok (.invokevirtual 42, 3)) (hk : kd M a0 = some (.inl 1)) (hf : f_X1_where a0 a1 a2 M K KX) (hst : (rest.map fun v => v.category).sum ≤ 8) (hF : 30 ≤ F) (hL : 670 ≤ L) (h1 : 2 ≤ bc) (h2 : 12 ≤ bs) (kk : ∀ x M1, K x M1 → V l G X (bc - 2) (bs - 12) M1 (pc + 3) lv (.int x :: rest)) (kx : ∀ q E M1, KX q E M1 → VX l G X (bc - 2) (bs - 12) M1 pc lv q E) : V l G X bc bs M pc lv (.int a2 :: .int a1 :: .ref a0 :: rest) := r_callV (n := 2) (As := [.int a1, .int a2]) h (m_X1_where hl hf) 1 rfl hk rfl ⟨by decide, by decide, by decide +kernel⟩ d q1285 q1286 q1287 q135 q1288 rfl rfl hst hF hL h1 h2 (kI_go kk) kx
def f_X0_where (a0 : Nat) (a1 : Int32) (a2 : Int32) (a3 : Nat) (M : gM) (K : Int32 → gM → Prop) : Prop :=
  kd M a0 = some (.inl 1) ∧ f_X1_where a0 a1 a2 M (fun x3 M2 => inA M2 a3 2 0 ∧ ∀ M5, M5 = sJ M2 a3 (ix 0) (x3.toInt64) → K 0 M5) (fun q9 E9 M9 => (E9 = "java/lang/IndexOutOfBoundsException" ∧ K 1 M9) ∨ (E9 = "java/lang/IllegalArgumentException" ∧ K 2 M9))
set_option maxHeartbeats 4000000 in
theorem m_X0_where {l : Launch} (hl : l.stackTraces = false) {G : gG} {a0 : Nat} {a1 : Int32} {a2 : Int32} {a3 : Nat} {M : gM} {K : Int32 → gM → Prop} (hf : f_X0_where a0 a1 a2 a3 M K) : gMet l G yX0_where (wsW_ yX0_where cX0_where 5 (some Jvm.ClassFile.FieldType.int) [(0, 10, 13, 28), (0, 10, 17, 13)]) ({ frames := 30, cells := 2, slots := 12, locals := 670 }) M [.ref a0, .int a1, .int a2, .ref a3] (kI K) kN := by
  refine gm_ofH hl (ret := (some Jvm.ClassFile.FieldType.int)) rfl (Nat.le_of_ble_eq_true rfl) (fun X h hq => ?_)
  have h : hX l G X cX0_where 5 "GlacierMailLaw" 30 670 := h
  have hf := hf
  show V l G X 2 12 M 0 [(0, .ref a0), (1, .int a1), (2, .int a2), (3, .ref a3)] []
  unfold f_X0_where at hf
  refine r_aload_n h 3 dX0_where_0 rfl rfl ?_
  refine r_iconst (v := 0) h dX0_where_1 (by decide) ?_
  refine r_aload_n h 0 dX0_where_2 rfl rfl ?_
  refine r_iload_n h 1 dX0_where_3 rfl rfl ?_
  refine r_iload_n h 2 dX0_where_4 rfl rfl ?_
  obtain ⟨k1, hf⟩ := hf
  refine c1285 hl h dX0_where_5 k1 hf (Nat.le_of_ble_eq_true rfl) (by decide) (by decide) (by decide) (by decide) (fun x3 M2 hf => ?_) (fun q9 E9 M9 hf => ?_)
  · skip
    refine r_i2l h dX0_where_8 ?_
    obtain ⟨j4, hf⟩ := hf
    refine r_lastore h dX0_where_9 j4 ?_
    refine r_goW (fun M5 eM5 => ?_)
    have hf := hf M5 eM5
    refine r_goto (tgt := 21) h dX0_where_10 (by decide) ?_
    refine r_iconst (v := 0) h dX0_where_21 (by decide) ?_
    exact r_ireturn h hq dX0_where_22 ⟨_, rfl, hf⟩
  · rcases hf with ⟨rfl, hf⟩ | ⟨rfl, hf⟩
    · refine r_catch h hq 0 (E := "java/lang/IndexOutOfBoundsException") (nm := "java/lang/IndexOutOfBoundsException") rfl (fun z hz => nomatch hz) (by decide) (by decide) q1153 (List.mem_of_getElem? (i := 8) rfl) ?_
      refine r_astore (lv' := [(4, .ref q9), (0, .ref a0), (1, .int a1), (2, .int a2), (3, .ref a3)]) h dX0_where_13 (by decide) rfl ?_
      refine r_iconst (v := 1) h dX0_where_15 (by decide) ?_
      exact r_ireturn h hq dX0_where_16 ⟨_, rfl, hf⟩
    · refine r_catch h hq 1 (E := "java/lang/IllegalArgumentException") (nm := "java/lang/IllegalArgumentException") rfl (List.forall_mem_cons.mpr ⟨Or.inr ⟨by decide, "java/lang/IndexOutOfBoundsException", q1153, List.mem_of_getElem? (i := 16) rfl⟩, List.forall_mem_nil _⟩) (by decide) (by decide) q822 (List.mem_of_getElem? (i := 5) rfl) ?_
      refine r_astore (lv' := [(4, .ref q9), (0, .ref a0), (1, .int a1), (2, .int a2), (3, .ref a3)]) h dX0_where_17 (by decide) rfl ?_
      refine r_iconst (v := 2) h dX0_where_19 (by decide) ?_
      exact r_ireturn h hq dX0_where_20 ⟨_, rfl, hf⟩
theorem c1282 {l : Launch} {G : gG} {X : gX} {cc : ByteArray} {nL F L bc bs pc : Nat} {M : gM} {lv : List (Nat × Value)} {rest : List Value} {a0 : Nat} {a1 : Int32} {a2 : Int32} {a3 : Nat} {K : Int32 → gM → Prop} (hl : l.stackTraces = false) (h : hX l G X cc nL "GlacierMailLaw" F L) (d : decode cc pc = .ok (.invokestatic 183, 3)) (hf : f_X0_where a0 a1 a2 a3 M K) (hst : (rest.map fun v => v.category).sum ≤ 8) (hF : 31 ≤ F) (hL : 694 ≤ L) (h1 : 2 ≤ bc) (h2 : 12 ≤ bs) (kk : ∀ x M1, K x M1 → V l G X (bc - 2) (bs - 12) M1 (pc + 3) lv (.int x :: rest)) : V l G X bc bs M pc lv (.ref a3 :: .int a2 :: .int a1 :: .ref a0 :: rest) := r_callSH (n := 4) (As := [.ref a0, .int a1, .int a2, .ref a3]) h (m_X0_where hl hf) ⟨by decide, by decide, by decide +kernel⟩ d q1282 q1283 q134 q1284 rfl rfl hst hF hL h1 h2 (kI_go kk) kN_go
def f_X1_deep (a0 : Nat) (a1 : Int32) (a2 : Int32) (M : gM) (K : Int32 → gM → Prop) (KX : Addr → String → gM → Prop) : Prop :=
  kd M a0 = some (.inl 1) ∧ f_X1_letterAt a0 a1 M (fun b3 M2 => f_X1_isYear a2 M2 (fun M4 => kd M4 b3 = some (.inl 7) ∧ if (iv M4 b3 4) ≤ a2 then kd M4 a0 = some (.inl 1) ∧ ∃ b8, rv M4 a0 4 = some b8 ∧ kd M4 b8 = some (.inl 9) ∧ f_X9_of b8 b3 M4 (fun b12 M11 => kd M11 b12 = some (.inl 9) ∧ ∃ b14, rv M11 b12 1 = some b14 ∧ inA M11 b14 0 a2 ∧ K (iv M11 b14 (ix a2)) M11) else K (-1) M4) KX) KX
set_option maxHeartbeats 4000000 in
theorem m_X1_deep {l : Launch} (hl : l.stackTraces = false) {G : gG} {a0 : Nat} {a1 : Int32} {a2 : Int32} {M : gM} {K : Int32 → gM → Prop} {KX : Addr → String → gM → Prop} (hf : f_X1_deep a0 a1 a2 M K KX) : gMet l G yX1_deep (ws_ yX1_deep cX1_deep 4 (some Jvm.ClassFile.FieldType.int)) ({ frames := 29, cells := 2, slots := 12, locals := 647 }) M [.ref a0, .int a1, .int a2] (kI K) KX := by
  refine gm_of hl (ret := (some Jvm.ClassFile.FieldType.int)) rfl (Nat.le_of_ble_eq_true rfl) (fun X h hq => ?_)
  have h : hX l G X cX1_deep 4 "GlacierMail" 29 647 := h
  have hf := hf
  show V l G X 2 12 M 0 [(0, .ref a0), (1, .int a1), (2, .int a2)] []
  unfold f_X1_deep at hf
  refine r_aload_n h 0 dX1_deep_0 rfl rfl ?_
  refine r_iload_n h 1 dX1_deep_1 rfl rfl ?_
  obtain ⟨k1, hf⟩ := hf
  refine c1261 hl h dX1_deep_2 k1 hf (Nat.le_of_ble_eq_true rfl) (by decide) (by decide) (by decide) (by decide) (fun b3 M2 hf => ?_) (fun q9 E9 M9 hf => r_out h hq hf)
  refine r_astore_n (lv' := [(3, .ref b3), (0, .ref a0), (1, .int a1), (2, .int a2)]) h dX1_deep_5 rfl (by decide) rfl ?_
  refine r_iload_n h 3 dX1_deep_6 rfl rfl ?_
  refine c1144 hl h dX1_deep_7 hf (Nat.le_of_ble_eq_true rfl) (by decide) (by decide) (by decide) (by decide) (fun M4 hf => ?_) (fun q9 E9 M9 hf => r_out h hq hf)
  refine r_iload_n h 3 dX1_deep_10 rfl rfl ?_
  refine r_aload_n h 0 dX1_deep_11 rfl rfl ?_
  obtain ⟨k5, hf⟩ := hf
  refine g293 h dX1_deep_12 k5 ?_
  refine r_icmp_ge (tgt := 22) h dX1_deep_15 (by decide) (fun c6 => ?_) (fun c6 => ?_)
  · have hf := ite_t c6 hf
    refine r_aload_n h 1 dX1_deep_22 rfl rfl ?_
    obtain ⟨k7, hf⟩ := hf
    obtain ⟨b8, e9, hf⟩ := hf
    refine g577 h dX1_deep_23 k7 e9 ?_
    refine r_aload_n h 0 dX1_deep_26 rfl rfl ?_
    obtain ⟨k10, hf⟩ := hf
    refine c649 hl h dX1_deep_27 k10 hf (Nat.le_of_ble_eq_true rfl) (by decide) (by decide) (fun b12 M11 hf => ?_)
    obtain ⟨k13, hf⟩ := hf
    obtain ⟨b14, e15, hf⟩ := hf
    refine g555 h dX1_deep_30 k13 e15 ?_
    refine r_iload_n h 3 dX1_deep_33 rfl rfl ?_
    obtain ⟨j16, hf⟩ := hf
    refine r_iaload h dX1_deep_34 j16 ?_
    exact r_ireturn h hq dX1_deep_35 ⟨_, rfl, hf⟩
  · have hf := ite_f c6 hf
    refine r_iconst (v := (-1)) h dX1_deep_18 (by decide) ?_
    refine r_goto (tgt := 35) h dX1_deep_19 (by decide) ?_
    exact r_ireturn h hq dX1_deep_35 ⟨_, rfl, hf⟩
theorem c1292 {l : Launch} {G : gG} {X : gX} {cc : ByteArray} {nL F L bc bs pc : Nat} {M : gM} {lv : List (Nat × Value)} {rest : List Value} {a0 : Nat} {a1 : Int32} {a2 : Int32} {K : Int32 → gM → Prop} {KX : Addr → String → gM → Prop} (hl : l.stackTraces = false) (h : hX l G X cc nL "GlacierMailLaw" F L) (d : decode cc pc = .ok (.invokevirtual 45, 3)) (hk : kd M a0 = some (.inl 1)) (hf : f_X1_deep a0 a1 a2 M K KX) (hst : (rest.map fun v => v.category).sum ≤ 8) (hF : 30 ≤ F) (hL : 670 ≤ L) (h1 : 2 ≤ bc) (h2 : 12 ≤ bs) (kk : ∀ x M1, K x M1 → V l G X (bc - 2) (bs - 12) M1 (pc + 3) lv (.int x :: rest)) (kx : ∀ q E M1, KX q E M1 → VX l G X (bc - 2) (bs - 12) M1 pc lv q E) : V l G X bc bs M pc lv (.int a2 :: .int a1 :: .ref a0 :: rest) := r_callV (n := 2) (As := [.int a1, .int a2]) h (m_X1_deep hl hf) 1 rfl hk rfl ⟨by decide, by decide, by decide +kernel⟩ d q1292 q1293 q1294 q135 q1295 rfl rfl hst hF hL h1 h2 (kI_go kk) kx
def f_X0_deep (a0 : Nat) (a1 : Int32) (a2 : Int32) (a3 : Nat) (M : gM) (K : Int32 → gM → Prop) : Prop :=
  kd M a0 = some (.inl 1) ∧ f_X1_deep a0 a1 a2 M (fun x3 M2 => inA M2 a3 2 0 ∧ ∀ M5, M5 = sJ M2 a3 (ix 0) (x3.toInt64) → K 0 M5) (fun q9 E9 M9 => (E9 = "java/lang/IndexOutOfBoundsException" ∧ K 1 M9) ∨ (E9 = "java/lang/IllegalArgumentException" ∧ K 2 M9))
set_option maxHeartbeats 4000000 in
theorem m_X0_deep {l : Launch} (hl : l.stackTraces = false) {G : gG} {a0 : Nat} {a1 : Int32} {a2 : Int32} {a3 : Nat} {M : gM} {K : Int32 → gM → Prop} (hf : f_X0_deep a0 a1 a2 a3 M K) : gMet l G yX0_deep (wsW_ yX0_deep cX0_deep 5 (some Jvm.ClassFile.FieldType.int) [(0, 10, 13, 28), (0, 10, 17, 13)]) ({ frames := 30, cells := 2, slots := 12, locals := 670 }) M [.ref a0, .int a1, .int a2, .ref a3] (kI K) kN := by
  refine gm_ofH hl (ret := (some Jvm.ClassFile.FieldType.int)) rfl (Nat.le_of_ble_eq_true rfl) (fun X h hq => ?_)
  have h : hX l G X cX0_deep 5 "GlacierMailLaw" 30 670 := h
  have hf := hf
  show V l G X 2 12 M 0 [(0, .ref a0), (1, .int a1), (2, .int a2), (3, .ref a3)] []
  unfold f_X0_deep at hf
  refine r_aload_n h 3 dX0_deep_0 rfl rfl ?_
  refine r_iconst (v := 0) h dX0_deep_1 (by decide) ?_
  refine r_aload_n h 0 dX0_deep_2 rfl rfl ?_
  refine r_iload_n h 1 dX0_deep_3 rfl rfl ?_
  refine r_iload_n h 2 dX0_deep_4 rfl rfl ?_
  obtain ⟨k1, hf⟩ := hf
  refine c1292 hl h dX0_deep_5 k1 hf (Nat.le_of_ble_eq_true rfl) (by decide) (by decide) (by decide) (by decide) (fun x3 M2 hf => ?_) (fun q9 E9 M9 hf => ?_)
  · skip
    refine r_i2l h dX0_deep_8 ?_
    obtain ⟨j4, hf⟩ := hf
    refine r_lastore h dX0_deep_9 j4 ?_
    refine r_goW (fun M5 eM5 => ?_)
    have hf := hf M5 eM5
    refine r_goto (tgt := 21) h dX0_deep_10 (by decide) ?_
    refine r_iconst (v := 0) h dX0_deep_21 (by decide) ?_
    exact r_ireturn h hq dX0_deep_22 ⟨_, rfl, hf⟩
  · rcases hf with ⟨rfl, hf⟩ | ⟨rfl, hf⟩
    · refine r_catch h hq 0 (E := "java/lang/IndexOutOfBoundsException") (nm := "java/lang/IndexOutOfBoundsException") rfl (fun z hz => nomatch hz) (by decide) (by decide) q1153 (List.mem_of_getElem? (i := 8) rfl) ?_
      refine r_astore (lv' := [(4, .ref q9), (0, .ref a0), (1, .int a1), (2, .int a2), (3, .ref a3)]) h dX0_deep_13 (by decide) rfl ?_
      refine r_iconst (v := 1) h dX0_deep_15 (by decide) ?_
      exact r_ireturn h hq dX0_deep_16 ⟨_, rfl, hf⟩
    · refine r_catch h hq 1 (E := "java/lang/IllegalArgumentException") (nm := "java/lang/IllegalArgumentException") rfl (List.forall_mem_cons.mpr ⟨Or.inr ⟨by decide, "java/lang/IndexOutOfBoundsException", q1153, List.mem_of_getElem? (i := 16) rfl⟩, List.forall_mem_nil _⟩) (by decide) (by decide) q822 (List.mem_of_getElem? (i := 5) rfl) ?_
      refine r_astore (lv' := [(4, .ref q9), (0, .ref a0), (1, .int a1), (2, .int a2), (3, .ref a3)]) h dX0_deep_17 (by decide) rfl ?_
      refine r_iconst (v := 2) h dX0_deep_19 (by decide) ?_
      exact r_ireturn h hq dX0_deep_20 ⟨_, rfl, hf⟩
theorem c1289 {l : Launch} {G : gG} {X : gX} {cc : ByteArray} {nL F L bc bs pc : Nat} {M : gM} {lv : List (Nat × Value)} {rest : List Value} {a0 : Nat} {a1 : Int32} {a2 : Int32} {a3 : Nat} {K : Int32 → gM → Prop} (hl : l.stackTraces = false) (h : hX l G X cc nL "GlacierMailLaw" F L) (d : decode cc pc = .ok (.invokestatic 186, 3)) (hf : f_X0_deep a0 a1 a2 a3 M K) (hst : (rest.map fun v => v.category).sum ≤ 8) (hF : 31 ≤ F) (hL : 694 ≤ L) (h1 : 2 ≤ bc) (h2 : 12 ≤ bs) (kk : ∀ x M1, K x M1 → V l G X (bc - 2) (bs - 12) M1 (pc + 3) lv (.int x :: rest)) : V l G X bc bs M pc lv (.ref a3 :: .int a2 :: .int a1 :: .ref a0 :: rest) := r_callSH (n := 4) (As := [.ref a0, .int a1, .int a2, .ref a3]) h (m_X0_deep hl hf) ⟨by decide, by decide, by decide +kernel⟩ d q1289 q1290 q134 q1291 rfl rfl hst hF hL h1 h2 (kI_go kk) kN_go
def f_X1_remembers (a0 : Nat) (M : gM) (K : gM → Prop) : Prop :=
  kd M a0 = some (.inl 1) ∧ ∃ b2, rv M a0 3 = some b2 ∧ inA M b2 9 (iv M a0 13) ∧ ∃ b5, rv M b2 (ix (iv M a0 13)) = some b5 ∧ ∃ b7, rv M a0 1 = some b7 ∧ kd M b5 = some (.inl 3) ∧ f_X3_be b5 b7 M (fun M10 => kd M10 a0 = some (.inl 1) ∧ ∀ M12, M12 = sI M10 a0 13 (((iv M10 a0 13) + 1) - ((iv M10 a0 13) + 1) / 12 * 12) → kd M12 a0 = some (.inl 1) ∧ ∀ x14, x14 = (if ((iv M12 a0 12) + 1) < 12 then ((iv M12 a0 12) + 1) else 12) → ∀ M15, M15 = sI M12 a0 12 x14 → K M15)
set_option maxHeartbeats 4000000 in
theorem m_X1_remembers {l : Launch} (hl : l.stackTraces = false) {G : gG} {a0 : Nat} {M : gM} {K : gM → Prop} (hf : f_X1_remembers a0 M K) : gMet l G yX1_remembers (ws_ yX1_remembers cX1_remembers 1 none) ({ frames := 3, cells := 0, slots := 0, locals := 143 }) M [.ref a0] (kV K) kN := by
  refine gm_of hl (ret := none) rfl (Nat.le_of_ble_eq_true rfl) (fun X h hq => ?_)
  have h : hX l G X cX1_remembers 1 "GlacierMail" 3 143 := h
  have hf := hf
  show V l G X 0 0 M 0 [(0, .ref a0)] []
  unfold f_X1_remembers at hf
  refine r_aload_n h 0 dX1_remembers_0 rfl rfl ?_
  obtain ⟨k1, hf⟩ := hf
  obtain ⟨b2, e3, hf⟩ := hf
  refine g576 h dX1_remembers_1 k1 e3 ?_
  refine r_aload_n h 0 dX1_remembers_4 rfl rfl ?_
  refine g586 h dX1_remembers_5 k1 ?_
  obtain ⟨j4, b5, e6, hf⟩ := hf
  refine r_aaload h 9 (by decide) (by decide) dX1_remembers_8 j4 (v := .ref b5) (by rw [e6]; rfl) ?_
  refine r_aload_n h 0 dX1_remembers_9 rfl rfl ?_
  obtain ⟨b7, e8, hf⟩ := hf
  refine g573 h dX1_remembers_10 k1 e8 ?_
  obtain ⟨k9, hf⟩ := hf
  refine c771 hl h dX1_remembers_13 k9 hf (Nat.le_of_ble_eq_true rfl) (by decide) (by decide) (fun M10 hf => ?_)
  refine r_aload_n h 0 dX1_remembers_16 rfl rfl ?_
  refine r_aload_n h 0 dX1_remembers_17 rfl rfl ?_
  obtain ⟨k11, hf⟩ := hf
  refine g586 h dX1_remembers_18 k11 ?_
  refine r_iconst (v := 1) h dX1_remembers_21 (by decide) ?_
  refine r_iadd h dX1_remembers_22 ?_
  refine r_bipush (v := 12) h dX1_remembers_23 (by decide) ?_
  refine r_irem h dX1_remembers_25 (by decide) ?_
  refine p586 h dX1_remembers_26 k11 ?_
  refine r_goW (fun M12 eM12 => ?_)
  have hf := hf M12 eM12
  refine r_aload_n h 0 dX1_remembers_29 rfl rfl ?_
  refine r_bipush (v := 12) h dX1_remembers_30 (by decide) ?_
  refine r_aload_n h 0 dX1_remembers_32 rfl rfl ?_
  obtain ⟨k13, hf⟩ := hf
  refine g585 h dX1_remembers_33 k13 ?_
  refine r_iconst (v := 1) h dX1_remembers_36 (by decide) ?_
  refine r_iadd h dX1_remembers_37 ?_
  refine r_mmin h q1307 q729 q165 q730 dX1_remembers_38 (by decide) (by decide) (Nat.le_of_ble_eq_true rfl) ?_
  refine r_nam (fun x14 ex14 => ?_)
  have hf := hf x14 ex14
  refine p585 h dX1_remembers_41 k13 ?_
  refine r_goW (fun M15 eM15 => ?_)
  have hf := hf M15 eM15
  exact r_return h hq dX1_remembers_44 ⟨rfl, hf⟩
theorem c1303 {l : Launch} {G : gG} {X : gX} {cc : ByteArray} {nL F L bc bs pc : Nat} {M : gM} {lv : List (Nat × Value)} {rest : List Value} {a0 : Nat} {K : gM → Prop} (hl : l.stackTraces = false) (h : hX l G X cc nL "GlacierMail" F L) (d : decode cc pc = .ok (.invokevirtual 280, 3)) (hk : kd M a0 = some (.inl 1)) (hf : f_X1_remembers a0 M K) (hst : (rest.map fun v => v.category).sum ≤ 8) (hF : 4 ≤ F) (hL : 163 ≤ L) (kk : ∀ M1, K M1 → V l G X bc bs M1 (pc + 3) lv rest) : V l G X bc bs M pc lv (.ref a0 :: rest) := r_callV (n := 0) (As := []) h (m_X1_remembers hl hf) 1 rfl hk rfl ⟨by decide, by decide, by decide +kernel⟩ d q1303 q1305 qs37 q135 q1306 rfl rfl hst hF hL (Nat.zero_le _) (Nat.zero_le _) (kV_go kk) kN_go
def f_X1_post (a0 : Nat) (a1 : Int32) (a2 : Int32) (M : gM) (K : Int32 → gM → Prop) (KX : Addr → String → gM → Prop) : Prop :=
  ∀ P23 : Nat → Int32 → Int32 → Nat → Int32 → gM → Prop,
  ∀ P43 : Nat → Int32 → Int32 → Nat → Int32 → gM → Prop,
  (∀ (v0 : Nat) (v1 : Int32) (v2 : Int32) (v3 : Nat) (s0 : Int32) (M : gM), (f_X1_must s0 M (fun M8 => kd M8 v0 = some (.inl 1) ∧ ∃ b10, rv M8 v0 1 = some b10 ∧ kd M8 b10 = some (.inl 3) ∧ if 24 ≤ (iv M8 b10 14) then P43 v0 v1 v2 v3 0 M8 else P43 v0 v1 v2 v3 1 M8) KX) → P23 v0 v1 v2 v3 s0 M) →
  (∀ (v0 : Nat) (v1 : Int32) (v2 : Int32) (v3 : Nat) (s0 : Int32) (M : gM), (f_X1_mayBe s0 M (fun M14 => kd M14 v0 = some (.inl 1) ∧ f_X1_remembers v0 M14 (fun M16 => kd M16 v0 = some (.inl 1) ∧ ∃ b18, rv M16 v0 1 = some b18 ∧ kd M16 b18 = some (.inl 3) ∧ ∃ b21, rv M16 b18 3 = some b21 ∧ ∃ b23, rv M16 v0 1 = some b23 ∧ kd M16 b23 = some (.inl 3) ∧ inA M16 b21 8 (iv M16 b23 14) ∧ ∃ b27, rv M16 b21 (ix (iv M16 b23 14)) = some b27 ∧ kd M16 v3 = some (.inl 6) ∧ ∃ b30, rv M16 v0 1 = some b30 ∧ kd M16 b30 = some (.inl 3) ∧ kd M16 b27 = some (.inl 7) ∧ f_X7_tell b27 v1 v2 (iv M16 v3 0) (iv M16 v3 1) (iv M16 b30 22) M16 (fun b35 M34 => kd M34 v0 = some (.inl 1) ∧ ∃ b37, rv M34 v0 1 = some b37 ∧ kd M34 b37 = some (.inl 3) ∧ ∀ M40, M40 = sI M34 b37 14 ((iv M34 b37 14) + 1) → kd M40 v0 = some (.inl 1) ∧ ∃ b42, rv M40 v0 1 = some b42 ∧ kd M40 b42 = some (.inl 3) ∧ K ((iv M40 b42 14) - 1) M40))) KX) → P43 v0 v1 v2 v3 s0 M) →
  kd M a0 = some (.inl 1) ∧ f_X1_personAt a0 a1 M (fun b3 M2 => kd M2 a0 = some (.inl 1) ∧ f_X1_personAt a0 a2 M2 (fun b6 M5 => if a1 = a2 then P23 a0 a1 a2 b3 0 M5 else P23 a0 a1 a2 b3 1 M5) KX) KX
set_option maxHeartbeats 4000000 in
theorem m_X1_post {l : Launch} (hl : l.stackTraces = false) {G : gG} {a0 : Nat} {a1 : Int32} {a2 : Int32} {M : gM} {K : Int32 → gM → Prop} {KX : Addr → String → gM → Prop} (hf : f_X1_post a0 a1 a2 M K KX) : gMet l G yX1_post (ws_ yX1_post cX1_post 6 (some Jvm.ClassFile.FieldType.int)) ({ frames := 14, cells := 4, slots := 24, locals := 241 }) M [.ref a0, .int a1, .int a2] (kI K) KX := by
  refine gm_of hl (ret := (some Jvm.ClassFile.FieldType.int)) rfl (Nat.le_of_ble_eq_true rfl) (fun X h hq => ?_)
  have h : hX l G X cX1_post 6 "GlacierMail" 14 241 := h
  have hf := hf
  show V l G X 4 24 M 0 [(0, .ref a0), (1, .int a1), (2, .int a2)] []
  have hf := hf
    (fun v0 v1 v2 v3 s0 M => V l G X 2 12 M 23 [(0, .ref v0), (1, .int v1), (2, .int v2), (3, .ref v3)] [.int s0])
    (fun v0 v1 v2 v3 s0 M => V l G X 1 6 M 43 [(0, .ref v0), (1, .int v1), (2, .int v2), (3, .ref v3)] [.int s0])
    (by
      intro v0 v1 v2 v3 s0 M hf
      show V l G X 2 12 M 23 [(0, .ref v0), (1, .int v1), (2, .int v2), (3, .ref v3)] [.int s0]
      refine c1147 hl h dX1_post_23 hf (Nat.le_of_ble_eq_true rfl) (by decide) (by decide) (by decide) (by decide) (fun M8 hf => ?_) (fun q9 E9 M9 hf => r_out h hq hf)
      refine r_aload_n h 0 dX1_post_26 rfl rfl ?_
      obtain ⟨k9, hf⟩ := hf
      obtain ⟨b10, e11, hf⟩ := hf
      refine g573 h dX1_post_27 k9 e11 ?_
      obtain ⟨k12, hf⟩ := hf
      refine g358 h dX1_post_30 k12 ?_
      refine r_bipush (v := 24) h dX1_post_33 (by decide) ?_
      refine r_icmp_ge (tgt := 42) h dX1_post_35 (by decide) (fun c13 => ?_) (fun c13 => ?_)
      · have hf := ite_t c13 hf
        refine r_iconst (v := 0) h dX1_post_42 (by decide) ?_
        exact V.sub [0, 1, 2, 3] rfl hf
      · have hf := ite_f c13 hf
        refine r_iconst (v := 1) h dX1_post_38 (by decide) ?_
        refine r_goto (tgt := 43) h dX1_post_39 (by decide) ?_
        exact V.sub [0, 1, 2, 3] rfl hf)
    (by
      intro v0 v1 v2 v3 s0 M hf
      show V l G X 1 6 M 43 [(0, .ref v0), (1, .int v1), (2, .int v2), (3, .ref v3)] [.int s0]
      refine c987 hl h dX1_post_43 hf (Nat.le_of_ble_eq_true rfl) (by decide) (by decide) (by decide) (by decide) (fun M14 hf => ?_) (fun q9 E9 M9 hf => r_out h hq hf)
      refine r_aload_n h 0 dX1_post_46 rfl rfl ?_
      obtain ⟨k15, hf⟩ := hf
      refine c1303 hl h dX1_post_47 k15 hf (Nat.le_of_ble_eq_true rfl) (by decide) (by decide) (fun M16 hf => ?_)
      refine r_aload_n h 0 dX1_post_50 rfl rfl ?_
      obtain ⟨k17, hf⟩ := hf
      obtain ⟨b18, e19, hf⟩ := hf
      refine g573 h dX1_post_51 k17 e19 ?_
      obtain ⟨k20, hf⟩ := hf
      obtain ⟨b21, e22, hf⟩ := hf
      refine g329 h dX1_post_54 k20 e22 ?_
      refine r_aload_n h 0 dX1_post_57 rfl rfl ?_
      obtain ⟨b23, e24, hf⟩ := hf
      refine g573 h dX1_post_58 k17 e24 ?_
      obtain ⟨k25, hf⟩ := hf
      refine g358 h dX1_post_61 k25 ?_
      obtain ⟨j26, b27, e28, hf⟩ := hf
      refine r_aaload h 8 (by decide) (by decide) dX1_post_64 j26 (v := .ref b27) (by rw [e28]; rfl) ?_
      refine r_iload_n h 1 dX1_post_65 rfl rfl ?_
      refine r_iload_n h 2 dX1_post_66 rfl rfl ?_
      refine r_aload_n h 3 dX1_post_67 rfl rfl ?_
      obtain ⟨k29, hf⟩ := hf
      refine g260 h dX1_post_68 k29 ?_
      refine r_aload_n h 3 dX1_post_71 rfl rfl ?_
      refine g263 h dX1_post_72 k29 ?_
      refine r_aload_n h 0 dX1_post_75 rfl rfl ?_
      obtain ⟨b30, e31, hf⟩ := hf
      refine g573 h dX1_post_76 k17 e31 ?_
      obtain ⟨k32, hf⟩ := hf
      refine g381 h dX1_post_79 k32 ?_
      obtain ⟨k33, hf⟩ := hf
      refine c1308 hl h dX1_post_82 k33 hf (Nat.le_of_ble_eq_true rfl) (by decide) (by decide) (fun b35 M34 hf => ?_)
      refine r_astore (lv' := [(5, .ref b35), (0, .ref v0), (1, .int v1), (2, .int v2), (3, .ref v3)]) h dX1_post_85 (by decide) rfl ?_
      refine r_aload_n h 1 dX1_post_87 rfl rfl ?_
      obtain ⟨k36, hf⟩ := hf
      obtain ⟨b37, e38, hf⟩ := hf
      refine g573 h dX1_post_88 k36 e38 ?_
      refine r_dup h dX1_post_91 rfl ?_
      obtain ⟨k39, hf⟩ := hf
      refine g358 h dX1_post_92 k39 ?_
      refine r_iconst (v := 1) h dX1_post_95 (by decide) ?_
      refine r_iadd h dX1_post_96 ?_
      refine p358 h dX1_post_97 k39 ?_
      refine r_goW (fun M40 eM40 => ?_)
      have hf := hf M40 eM40
      refine r_aload_n h 1 dX1_post_100 rfl rfl ?_
      obtain ⟨k41, hf⟩ := hf
      obtain ⟨b42, e43, hf⟩ := hf
      refine g573 h dX1_post_101 k41 e43 ?_
      obtain ⟨k44, hf⟩ := hf
      refine g358 h dX1_post_104 k44 ?_
      refine r_iconst (v := 1) h dX1_post_107 (by decide) ?_
      refine r_isub h dX1_post_108 ?_
      exact r_ireturn h hq dX1_post_109 ⟨_, rfl, hf⟩)
  refine r_aload_n h 0 dX1_post_0 rfl rfl ?_
  refine r_iload_n h 1 dX1_post_1 rfl rfl ?_
  obtain ⟨k1, hf⟩ := hf
  refine c1231 hl h dX1_post_2 k1 hf (Nat.le_of_ble_eq_true rfl) (by decide) (by decide) (by decide) (by decide) (fun b3 M2 hf => ?_) (fun q9 E9 M9 hf => r_out h hq hf)
  refine r_astore_n (lv' := [(3, .ref b3), (0, .ref a0), (1, .int a1), (2, .int a2)]) h dX1_post_5 rfl (by decide) rfl ?_
  refine r_aload_n h 1 dX1_post_6 rfl rfl ?_
  refine r_iload_n h 3 dX1_post_7 rfl rfl ?_
  obtain ⟨k4, hf⟩ := hf
  refine c1231 hl h dX1_post_8 k4 hf (Nat.le_of_ble_eq_true rfl) (by decide) (by decide) (by decide) (by decide) (fun b6 M5 hf => ?_) (fun q9 E9 M9 hf => r_out h hq hf)
  refine r_astore (lv' := [(4, .ref b6), (3, .ref b3), (0, .ref a0), (1, .int a1), (2, .int a2)]) h dX1_post_11 (by decide) rfl ?_
  refine r_iload_n h 3 dX1_post_13 rfl rfl ?_
  refine r_iload_n h 4 dX1_post_14 rfl rfl ?_
  refine r_icmp_eq (tgt := 22) h dX1_post_15 (by decide) (fun c7 => ?_) (fun c7 => ?_)
  · have hf := ite_t c7 hf
    refine r_iconst (v := 0) h dX1_post_22 (by decide) ?_
    exact V.sub [2, 3, 4, 1] rfl hf
  · have hf := ite_f c7 hf
    refine r_iconst (v := 1) h dX1_post_18 (by decide) ?_
    refine r_goto (tgt := 23) h dX1_post_19 (by decide) ?_
    exact V.sub [2, 3, 4, 1] rfl hf
theorem c1299 {l : Launch} {G : gG} {X : gX} {cc : ByteArray} {nL F L bc bs pc : Nat} {M : gM} {lv : List (Nat × Value)} {rest : List Value} {a0 : Nat} {a1 : Int32} {a2 : Int32} {K : Int32 → gM → Prop} {KX : Addr → String → gM → Prop} (hl : l.stackTraces = false) (h : hX l G X cc nL "GlacierMailLaw" F L) (d : decode cc pc = .ok (.invokevirtual 48, 3)) (hk : kd M a0 = some (.inl 1)) (hf : f_X1_post a0 a1 a2 M K KX) (hst : (rest.map fun v => v.category).sum ≤ 8) (hF : 15 ≤ F) (hL : 266 ≤ L) (h1 : 4 ≤ bc) (h2 : 24 ≤ bs) (kk : ∀ x M1, K x M1 → V l G X (bc - 4) (bs - 24) M1 (pc + 3) lv (.int x :: rest)) (kx : ∀ q E M1, KX q E M1 → VX l G X (bc - 4) (bs - 24) M1 pc lv q E) : V l G X bc bs M pc lv (.int a2 :: .int a1 :: .ref a0 :: rest) := r_callV (n := 2) (As := [.int a1, .int a2]) h (m_X1_post hl hf) 1 rfl hk rfl ⟨by decide, by decide, by decide +kernel⟩ d q1299 q1300 q1301 q135 q1302 rfl rfl hst hF hL h1 h2 (kI_go kk) kx
def f_X0_post (a0 : Nat) (a1 : Int32) (a2 : Int32) (a3 : Nat) (M : gM) (K : Int32 → gM → Prop) : Prop :=
  kd M a0 = some (.inl 1) ∧ f_X1_post a0 a1 a2 M (fun x3 M2 => inA M2 a3 2 0 ∧ ∀ M5, M5 = sJ M2 a3 (ix 0) (x3.toInt64) → K 0 M5) (fun q9 E9 M9 => (E9 = "java/lang/IndexOutOfBoundsException" ∧ K 1 M9) ∨ (E9 = "java/lang/IllegalArgumentException" ∧ K 2 M9) ∨ (E9 = "java/lang/UnsupportedOperationException" ∧ K 3 M9))
set_option maxHeartbeats 4000000 in
theorem m_X0_post {l : Launch} (hl : l.stackTraces = false) {G : gG} {a0 : Nat} {a1 : Int32} {a2 : Int32} {a3 : Nat} {M : gM} {K : Int32 → gM → Prop} (hf : f_X0_post a0 a1 a2 a3 M K) : gMet l G yX0_post (wsW_ yX0_post cX0_post 5 (some Jvm.ClassFile.FieldType.int) [(0, 10, 13, 28), (0, 10, 17, 13), (0, 10, 21, 15)]) ({ frames := 15, cells := 4, slots := 24, locals := 266 }) M [.ref a0, .int a1, .int a2, .ref a3] (kI K) kN := by
  refine gm_ofH hl (ret := (some Jvm.ClassFile.FieldType.int)) rfl (Nat.le_of_ble_eq_true rfl) (fun X h hq => ?_)
  have h : hX l G X cX0_post 5 "GlacierMailLaw" 15 266 := h
  have hf := hf
  show V l G X 4 24 M 0 [(0, .ref a0), (1, .int a1), (2, .int a2), (3, .ref a3)] []
  unfold f_X0_post at hf
  refine r_aload_n h 3 dX0_post_0 rfl rfl ?_
  refine r_iconst (v := 0) h dX0_post_1 (by decide) ?_
  refine r_aload_n h 0 dX0_post_2 rfl rfl ?_
  refine r_iload_n h 1 dX0_post_3 rfl rfl ?_
  refine r_iload_n h 2 dX0_post_4 rfl rfl ?_
  obtain ⟨k1, hf⟩ := hf
  refine c1299 hl h dX0_post_5 k1 hf (Nat.le_of_ble_eq_true rfl) (by decide) (by decide) (by decide) (by decide) (fun x3 M2 hf => ?_) (fun q9 E9 M9 hf => ?_)
  · skip
    refine r_i2l h dX0_post_8 ?_
    obtain ⟨j4, hf⟩ := hf
    refine r_lastore h dX0_post_9 j4 ?_
    refine r_goW (fun M5 eM5 => ?_)
    have hf := hf M5 eM5
    refine r_goto (tgt := 25) h dX0_post_10 (by decide) ?_
    refine r_iconst (v := 0) h dX0_post_25 (by decide) ?_
    exact r_ireturn h hq dX0_post_26 ⟨_, rfl, hf⟩
  · rcases hf with ⟨rfl, hf⟩ | ⟨rfl, hf⟩ | ⟨rfl, hf⟩
    · refine r_catch h hq 0 (E := "java/lang/IndexOutOfBoundsException") (nm := "java/lang/IndexOutOfBoundsException") rfl (fun z hz => nomatch hz) (by decide) (by decide) q1153 (List.mem_of_getElem? (i := 8) rfl) ?_
      refine r_astore (lv' := [(4, .ref q9), (0, .ref a0), (1, .int a1), (2, .int a2), (3, .ref a3)]) h dX0_post_13 (by decide) rfl ?_
      refine r_iconst (v := 1) h dX0_post_15 (by decide) ?_
      exact r_ireturn h hq dX0_post_16 ⟨_, rfl, hf⟩
    · refine r_catch h hq 1 (E := "java/lang/IllegalArgumentException") (nm := "java/lang/IllegalArgumentException") rfl (List.forall_mem_cons.mpr ⟨Or.inr ⟨by decide, "java/lang/IndexOutOfBoundsException", q1153, List.mem_of_getElem? (i := 16) rfl⟩, List.forall_mem_nil _⟩) (by decide) (by decide) q822 (List.mem_of_getElem? (i := 5) rfl) ?_
      refine r_astore (lv' := [(4, .ref q9), (0, .ref a0), (1, .int a1), (2, .int a2), (3, .ref a3)]) h dX0_post_17 (by decide) rfl ?_
      refine r_iconst (v := 2) h dX0_post_19 (by decide) ?_
      exact r_ireturn h hq dX0_post_20 ⟨_, rfl, hf⟩
    · refine r_catch h hq 2 (E := "java/lang/UnsupportedOperationException") (nm := "java/lang/UnsupportedOperationException") rfl (List.forall_mem_cons.mpr ⟨Or.inr ⟨by decide, "java/lang/IndexOutOfBoundsException", q1153, List.mem_of_getElem? (i := 17) rfl⟩, List.forall_mem_cons.mpr ⟨Or.inr ⟨by decide, "java/lang/IllegalArgumentException", q822, List.mem_of_getElem? (i := 1) rfl⟩, List.forall_mem_nil _⟩⟩) (by decide) (by decide) q823 (List.mem_of_getElem? (i := 6) rfl) ?_
      refine r_astore (lv' := [(4, .ref q9), (0, .ref a0), (1, .int a1), (2, .int a2), (3, .ref a3)]) h dX0_post_21 (by decide) rfl ?_
      refine r_iconst (v := 3) h dX0_post_23 (by decide) ?_
      exact r_ireturn h hq dX0_post_24 ⟨_, rfl, hf⟩
theorem c1296 {l : Launch} {G : gG} {X : gX} {cc : ByteArray} {nL F L bc bs pc : Nat} {M : gM} {lv : List (Nat × Value)} {rest : List Value} {a0 : Nat} {a1 : Int32} {a2 : Int32} {a3 : Nat} {K : Int32 → gM → Prop} (hl : l.stackTraces = false) (h : hX l G X cc nL "GlacierMailLaw" F L) (d : decode cc pc = .ok (.invokestatic 189, 3)) (hf : f_X0_post a0 a1 a2 a3 M K) (hst : (rest.map fun v => v.category).sum ≤ 8) (hF : 16 ≤ F) (hL : 290 ≤ L) (h1 : 4 ≤ bc) (h2 : 24 ≤ bs) (kk : ∀ x M1, K x M1 → V l G X (bc - 4) (bs - 24) M1 (pc + 3) lv (.int x :: rest)) : V l G X bc bs M pc lv (.ref a3 :: .int a2 :: .int a1 :: .ref a0 :: rest) := r_callSH (n := 4) (As := [.ref a0, .int a1, .int a2, .ref a3]) h (m_X0_post hl hf) ⟨by decide, by decide, by decide +kernel⟩ d q1296 q1297 q134 q1298 rfl rfl hst hF hL h1 h2 (kI_go kk) kN_go
def f_X1_watch (a0 : Nat) (a1 : Int32) (a2 : Int32) (M : gM) (K : Int32 → gM → Prop) (KX : Addr → String → gM → Prop) : Prop :=
  kd M a0 = some (.inl 1) ∧ f_X1_personAt a0 a1 M (fun b3 M2 => if a2 = (-1) then kd M2 a0 = some (.inl 1) ∧ f_X1_remembers a0 M2 (fun M6 => kd M6 b3 = some (.inl 6) ∧ ∀ M8, M8 = sI M6 b3 2 a2 → K (iv M6 b3 2) M8) else kd M2 a0 = some (.inl 1) ∧ f_X1_isLane a0 a2 M2 (fun M10 => kd M10 a0 = some (.inl 1) ∧ f_X1_remembers a0 M10 (fun M12 => kd M12 b3 = some (.inl 6) ∧ ∀ M14, M14 = sI M12 b3 2 a2 → K (iv M12 b3 2) M14)) KX) KX
set_option maxHeartbeats 4000000 in
theorem m_X1_watch {l : Launch} (hl : l.stackTraces = false) {G : gG} {a0 : Nat} {a1 : Int32} {a2 : Int32} {M : gM} {K : Int32 → gM → Prop} {KX : Addr → String → gM → Prop} (hf : f_X1_watch a0 a1 a2 M K KX) : gMet l G yX1_watch (ws_ yX1_watch cX1_watch 5 (some Jvm.ClassFile.FieldType.int)) ({ frames := 14, cells := 2, slots := 12, locals := 241 }) M [.ref a0, .int a1, .int a2] (kI K) KX := by
  refine gm_of hl (ret := (some Jvm.ClassFile.FieldType.int)) rfl (Nat.le_of_ble_eq_true rfl) (fun X h hq => ?_)
  have h : hX l G X cX1_watch 5 "GlacierMail" 14 241 := h
  have hf := hf
  show V l G X 2 12 M 0 [(0, .ref a0), (1, .int a1), (2, .int a2)] []
  unfold f_X1_watch at hf
  refine r_aload_n h 0 dX1_watch_0 rfl rfl ?_
  refine r_iload_n h 1 dX1_watch_1 rfl rfl ?_
  obtain ⟨k1, hf⟩ := hf
  refine c1231 hl h dX1_watch_2 k1 hf (Nat.le_of_ble_eq_true rfl) (by decide) (by decide) (by decide) (by decide) (fun b3 M2 hf => ?_) (fun q9 E9 M9 hf => r_out h hq hf)
  refine r_astore_n (lv' := [(3, .ref b3), (0, .ref a0), (1, .int a1), (2, .int a2)]) h dX1_watch_5 rfl (by decide) rfl ?_
  refine r_iload_n h 3 dX1_watch_6 rfl rfl ?_
  refine r_iconst (v := (-1)) h dX1_watch_7 (by decide) ?_
  refine r_icmp_eq (tgt := 16) h dX1_watch_8 (by decide) (fun c4 => ?_) (fun c4 => ?_)
  · have hf := ite_t c4 hf
    refine r_aload_n h 1 dX1_watch_16 rfl rfl ?_
    obtain ⟨k5, hf⟩ := hf
    refine c1303 hl h dX1_watch_17 k5 hf (Nat.le_of_ble_eq_true rfl) (by decide) (by decide) (fun M6 hf => ?_)
    refine r_aload_n h 0 dX1_watch_20 rfl rfl ?_
    obtain ⟨k7, hf⟩ := hf
    refine g266 h dX1_watch_21 k7 ?_
    refine r_istore (lv' := [(4, .int (iv M6 b3 2)), (3, .ref b3), (0, .ref a0), (1, .int a1), (2, .int a2)]) h dX1_watch_24 (by decide) rfl ?_
    refine r_aload_n h 1 dX1_watch_26 rfl rfl ?_
    refine r_iload_n h 4 dX1_watch_27 rfl rfl ?_
    refine p266 h dX1_watch_28 k7 ?_
    refine r_goW (fun M8 eM8 => ?_)
    have hf := hf M8 eM8
    refine r_iload h 0 dX1_watch_31 rfl ?_
    exact r_ireturn h hq dX1_watch_33 ⟨_, rfl, hf⟩
  · have hf := ite_f c4 hf
    refine r_aload_n h 1 dX1_watch_11 rfl rfl ?_
    refine r_iload_n h 3 dX1_watch_12 rfl rfl ?_
    obtain ⟨k9, hf⟩ := hf
    refine c1189 hl h dX1_watch_13 k9 hf (Nat.le_of_ble_eq_true rfl) (by decide) (by decide) (by decide) (by decide) (fun M10 hf => ?_) (fun q9 E9 M9 hf => r_out h hq hf)
    refine r_aload_n h 1 dX1_watch_16 rfl rfl ?_
    obtain ⟨k11, hf⟩ := hf
    refine c1303 hl h dX1_watch_17 k11 hf (Nat.le_of_ble_eq_true rfl) (by decide) (by decide) (fun M12 hf => ?_)
    refine r_aload_n h 0 dX1_watch_20 rfl rfl ?_
    obtain ⟨k13, hf⟩ := hf
    refine g266 h dX1_watch_21 k13 ?_
    refine r_istore (lv' := [(4, .int (iv M12 b3 2)), (3, .ref b3), (0, .ref a0), (1, .int a1), (2, .int a2)]) h dX1_watch_24 (by decide) rfl ?_
    refine r_aload_n h 1 dX1_watch_26 rfl rfl ?_
    refine r_iload_n h 4 dX1_watch_27 rfl rfl ?_
    refine p266 h dX1_watch_28 k13 ?_
    refine r_goW (fun M14 eM14 => ?_)
    have hf := hf M14 eM14
    refine r_iload h 0 dX1_watch_31 rfl ?_
    exact r_ireturn h hq dX1_watch_33 ⟨_, rfl, hf⟩
theorem c1312 {l : Launch} {G : gG} {X : gX} {cc : ByteArray} {nL F L bc bs pc : Nat} {M : gM} {lv : List (Nat × Value)} {rest : List Value} {a0 : Nat} {a1 : Int32} {a2 : Int32} {K : Int32 → gM → Prop} {KX : Addr → String → gM → Prop} (hl : l.stackTraces = false) (h : hX l G X cc nL "GlacierMailLaw" F L) (d : decode cc pc = .ok (.invokevirtual 51, 3)) (hk : kd M a0 = some (.inl 1)) (hf : f_X1_watch a0 a1 a2 M K KX) (hst : (rest.map fun v => v.category).sum ≤ 8) (hF : 15 ≤ F) (hL : 265 ≤ L) (h1 : 2 ≤ bc) (h2 : 12 ≤ bs) (kk : ∀ x M1, K x M1 → V l G X (bc - 2) (bs - 12) M1 (pc + 3) lv (.int x :: rest)) (kx : ∀ q E M1, KX q E M1 → VX l G X (bc - 2) (bs - 12) M1 pc lv q E) : V l G X bc bs M pc lv (.int a2 :: .int a1 :: .ref a0 :: rest) := r_callV (n := 2) (As := [.int a1, .int a2]) h (m_X1_watch hl hf) 1 rfl hk rfl ⟨by decide, by decide, by decide +kernel⟩ d q1312 q1313 q1314 q135 q1315 rfl rfl hst hF hL h1 h2 (kI_go kk) kx
def f_X0_watch (a0 : Nat) (a1 : Int32) (a2 : Int32) (a3 : Nat) (M : gM) (K : Int32 → gM → Prop) : Prop :=
  kd M a0 = some (.inl 1) ∧ f_X1_watch a0 a1 a2 M (fun x3 M2 => inA M2 a3 2 0 ∧ ∀ M5, M5 = sJ M2 a3 (ix 0) (x3.toInt64) → K 0 M5) (fun q9 E9 M9 => (E9 = "java/lang/IndexOutOfBoundsException" ∧ K 1 M9))
set_option maxHeartbeats 4000000 in
theorem m_X0_watch {l : Launch} (hl : l.stackTraces = false) {G : gG} {a0 : Nat} {a1 : Int32} {a2 : Int32} {a3 : Nat} {M : gM} {K : Int32 → gM → Prop} (hf : f_X0_watch a0 a1 a2 a3 M K) : gMet l G yX0_watch (wsW_ yX0_watch cX0_watch 5 (some Jvm.ClassFile.FieldType.int) [(0, 10, 13, 28)]) ({ frames := 15, cells := 2, slots := 12, locals := 265 }) M [.ref a0, .int a1, .int a2, .ref a3] (kI K) kN := by
  refine gm_ofH hl (ret := (some Jvm.ClassFile.FieldType.int)) rfl (Nat.le_of_ble_eq_true rfl) (fun X h hq => ?_)
  have h : hX l G X cX0_watch 5 "GlacierMailLaw" 15 265 := h
  have hf := hf
  show V l G X 2 12 M 0 [(0, .ref a0), (1, .int a1), (2, .int a2), (3, .ref a3)] []
  unfold f_X0_watch at hf
  refine r_aload_n h 3 dX0_watch_0 rfl rfl ?_
  refine r_iconst (v := 0) h dX0_watch_1 (by decide) ?_
  refine r_aload_n h 0 dX0_watch_2 rfl rfl ?_
  refine r_iload_n h 1 dX0_watch_3 rfl rfl ?_
  refine r_iload_n h 2 dX0_watch_4 rfl rfl ?_
  obtain ⟨k1, hf⟩ := hf
  refine c1312 hl h dX0_watch_5 k1 hf (Nat.le_of_ble_eq_true rfl) (by decide) (by decide) (by decide) (by decide) (fun x3 M2 hf => ?_) (fun q9 E9 M9 hf => ?_)
  · skip
    refine r_i2l h dX0_watch_8 ?_
    obtain ⟨j4, hf⟩ := hf
    refine r_lastore h dX0_watch_9 j4 ?_
    refine r_goW (fun M5 eM5 => ?_)
    have hf := hf M5 eM5
    refine r_goto (tgt := 17) h dX0_watch_10 (by decide) ?_
    refine r_iconst (v := 0) h dX0_watch_17 (by decide) ?_
    exact r_ireturn h hq dX0_watch_18 ⟨_, rfl, hf⟩
  · rcases hf with ⟨rfl, hf⟩
    · refine r_catch h hq 0 (E := "java/lang/IndexOutOfBoundsException") (nm := "java/lang/IndexOutOfBoundsException") rfl (fun z hz => nomatch hz) (by decide) (by decide) q1153 (List.mem_of_getElem? (i := 8) rfl) ?_
      refine r_astore (lv' := [(4, .ref q9), (0, .ref a0), (1, .int a1), (2, .int a2), (3, .ref a3)]) h dX0_watch_13 (by decide) rfl ?_
      refine r_iconst (v := 1) h dX0_watch_15 (by decide) ?_
      exact r_ireturn h hq dX0_watch_16 ⟨_, rfl, hf⟩
theorem c1309 {l : Launch} {G : gG} {X : gX} {cc : ByteArray} {nL F L bc bs pc : Nat} {M : gM} {lv : List (Nat × Value)} {rest : List Value} {a0 : Nat} {a1 : Int32} {a2 : Int32} {a3 : Nat} {K : Int32 → gM → Prop} (hl : l.stackTraces = false) (h : hX l G X cc nL "GlacierMailLaw" F L) (d : decode cc pc = .ok (.invokestatic 192, 3)) (hf : f_X0_watch a0 a1 a2 a3 M K) (hst : (rest.map fun v => v.category).sum ≤ 8) (hF : 16 ≤ F) (hL : 289 ≤ L) (h1 : 2 ≤ bc) (h2 : 12 ≤ bs) (kk : ∀ x M1, K x M1 → V l G X (bc - 2) (bs - 12) M1 (pc + 3) lv (.int x :: rest)) : V l G X bc bs M pc lv (.ref a3 :: .int a2 :: .int a1 :: .ref a0 :: rest) := r_callSH (n := 4) (As := [.ref a0, .int a1, .int a2, .ref a3]) h (m_X0_watch hl hf) ⟨by decide, by decide, by decide +kernel⟩ d q1309 q1310 q134 q1311 rfl rfl hst hF hL h1 h2 (kI_go kk) kN_go
def f_X3_opens (a0 : Nat) (a1 : Int32) (a2 : Int32) (M : gM) (K : gM → Prop) : Prop :=
  kd M a0 = some (.inl 3) ∧ ∃ b2, rv M a0 3 = some b2 ∧ inA M b2 8 a1 ∧ ∃ b5, rv M b2 (ix a1) = some b5 ∧ kd M b5 = some (.inl 7) ∧ ∀ M8, M8 = sI M b5 5 a2 → kd M8 a0 = some (.inl 3) ∧ ∃ b10, rv M8 a0 3 = some b10 ∧ inA M8 b10 8 a1 ∧ ∃ b13, rv M8 b10 (ix a1) = some b13 ∧ kd M8 b13 = some (.inl 7) ∧ ∀ M16, M16 = sI M8 b13 6 (iv M8 a0 22) → kd M16 a0 = some (.inl 3) ∧ ∃ b18, rv M16 a0 6 = some b18 ∧ inA M16 b18 0 ((3 : Int32) * (iv M16 a0 23)) ∧ ∀ M21, M21 = sI M16 b18 (ix ((3 : Int32) * (iv M16 a0 23))) (iv M16 a0 22) → kd M21 a0 = some (.inl 3) ∧ ∃ b23, rv M21 a0 6 = some b23 ∧ inA M21 b23 0 (((3 : Int32) * (iv M21 a0 23)) + 1) ∧ ∀ M26, M26 = sI M21 b23 (ix (((3 : Int32) * (iv M21 a0 23)) + 1)) a1 → kd M26 a0 = some (.inl 3) ∧ ∃ b28, rv M26 a0 6 = some b28 ∧ inA M26 b28 0 (((3 : Int32) * (iv M26 a0 23)) + 2) ∧ ∀ M31, M31 = sI M26 b28 (ix (((3 : Int32) * (iv M26 a0 23)) + 2)) a2 → kd M31 a0 = some (.inl 3) ∧ ∀ M33, M33 = sI M31 a0 23 ((iv M31 a0 23) + 1) → K M33
set_option maxHeartbeats 4000000 in
theorem m_X3_opens {l : Launch} (hl : l.stackTraces = false) {G : gG} {a0 : Nat} {a1 : Int32} {a2 : Int32} {M : gM} {K : gM → Prop} (hf : f_X3_opens a0 a1 a2 M K) : gMet l G yX3_opens (ws_ yX3_opens cX3_opens 3 none) ({ frames := 0, cells := 0, slots := 0, locals := 0 }) M [.ref a0, .int a1, .int a2] (kV K) kN := by
  refine gm_of hl (ret := none) rfl (Nat.le_of_ble_eq_true rfl) (fun X h hq => ?_)
  have h : hX l G X cX3_opens 3 "GlacierMail$State" 0 0 := h
  have hf := hf
  show V l G X 0 0 M 0 [(0, .ref a0), (1, .int a1), (2, .int a2)] []
  unfold f_X3_opens at hf
  refine r_aload_n h 0 dX3_opens_0 rfl rfl ?_
  obtain ⟨k1, hf⟩ := hf
  obtain ⟨b2, e3, hf⟩ := hf
  refine g328 h dX3_opens_1 k1 e3 ?_
  refine r_iload_n h 1 dX3_opens_4 rfl rfl ?_
  obtain ⟨j4, b5, e6, hf⟩ := hf
  refine r_aaload h 8 (by decide) (by decide) dX3_opens_5 j4 (v := .ref b5) (by rw [e6]; rfl) ?_
  refine r_iload_n h 2 dX3_opens_6 rfl rfl ?_
  obtain ⟨k7, hf⟩ := hf
  refine p295 h dX3_opens_7 k7 ?_
  refine r_goW (fun M8 eM8 => ?_)
  have hf := hf M8 eM8
  refine r_aload_n h 0 dX3_opens_10 rfl rfl ?_
  obtain ⟨k9, hf⟩ := hf
  obtain ⟨b10, e11, hf⟩ := hf
  refine g328 h dX3_opens_11 k9 e11 ?_
  refine r_iload_n h 1 dX3_opens_14 rfl rfl ?_
  obtain ⟨j12, b13, e14, hf⟩ := hf
  refine r_aaload h 8 (by decide) (by decide) dX3_opens_15 j12 (v := .ref b13) (by rw [e14]; rfl) ?_
  refine r_aload_n h 0 dX3_opens_16 rfl rfl ?_
  refine g379 h dX3_opens_17 k9 ?_
  obtain ⟨k15, hf⟩ := hf
  refine p298 h dX3_opens_20 k15 ?_
  refine r_goW (fun M16 eM16 => ?_)
  have hf := hf M16 eM16
  refine r_aload_n h 0 dX3_opens_23 rfl rfl ?_
  obtain ⟨k17, hf⟩ := hf
  obtain ⟨b18, e19, hf⟩ := hf
  refine g336 h dX3_opens_24 k17 e19 ?_
  refine r_iconst (v := 3) h dX3_opens_27 (by decide) ?_
  refine r_aload_n h 0 dX3_opens_28 rfl rfl ?_
  refine g382 h dX3_opens_29 k17 ?_
  refine r_imul h dX3_opens_32 ?_
  refine r_aload_n h 0 dX3_opens_33 rfl rfl ?_
  refine g379 h dX3_opens_34 k17 ?_
  obtain ⟨j20, hf⟩ := hf
  refine r_iastore h dX3_opens_37 j20 ?_
  refine r_goW (fun M21 eM21 => ?_)
  have hf := hf M21 eM21
  refine r_aload_n h 0 dX3_opens_38 rfl rfl ?_
  obtain ⟨k22, hf⟩ := hf
  obtain ⟨b23, e24, hf⟩ := hf
  refine g336 h dX3_opens_39 k22 e24 ?_
  refine r_iconst (v := 3) h dX3_opens_42 (by decide) ?_
  refine r_aload_n h 0 dX3_opens_43 rfl rfl ?_
  refine g382 h dX3_opens_44 k22 ?_
  refine r_imul h dX3_opens_47 ?_
  refine r_iconst (v := 1) h dX3_opens_48 (by decide) ?_
  refine r_iadd h dX3_opens_49 ?_
  refine r_iload_n h 1 dX3_opens_50 rfl rfl ?_
  obtain ⟨j25, hf⟩ := hf
  refine r_iastore h dX3_opens_51 j25 ?_
  refine r_goW (fun M26 eM26 => ?_)
  have hf := hf M26 eM26
  refine r_aload_n h 0 dX3_opens_52 rfl rfl ?_
  obtain ⟨k27, hf⟩ := hf
  obtain ⟨b28, e29, hf⟩ := hf
  refine g336 h dX3_opens_53 k27 e29 ?_
  refine r_iconst (v := 3) h dX3_opens_56 (by decide) ?_
  refine r_aload_n h 0 dX3_opens_57 rfl rfl ?_
  refine g382 h dX3_opens_58 k27 ?_
  refine r_imul h dX3_opens_61 ?_
  refine r_iconst (v := 2) h dX3_opens_62 (by decide) ?_
  refine r_iadd h dX3_opens_63 ?_
  refine r_iload_n h 2 dX3_opens_64 rfl rfl ?_
  obtain ⟨j30, hf⟩ := hf
  refine r_iastore h dX3_opens_65 j30 ?_
  refine r_goW (fun M31 eM31 => ?_)
  have hf := hf M31 eM31
  refine r_aload_n h 0 dX3_opens_66 rfl rfl ?_
  refine r_dup h dX3_opens_67 rfl ?_
  obtain ⟨k32, hf⟩ := hf
  refine g382 h dX3_opens_68 k32 ?_
  refine r_iconst (v := 1) h dX3_opens_71 (by decide) ?_
  refine r_iadd h dX3_opens_72 ?_
  refine p382 h dX3_opens_73 k32 ?_
  refine r_goW (fun M33 eM33 => ?_)
  have hf := hf M33 eM33
  exact r_return h hq dX3_opens_76 ⟨rfl, hf⟩
theorem c1339 {l : Launch} {G : gG} {X : gX} {cc : ByteArray} {nL F L bc bs pc : Nat} {M : gM} {lv : List (Nat × Value)} {rest : List Value} {a0 : Nat} {a1 : Int32} {a2 : Int32} {K : gM → Prop} (hl : l.stackTraces = false) (h : hX l G X cc nL "GlacierMail" F L) (d : decode cc pc = .ok (.invokevirtual 290, 3)) (hk : kd M a0 = some (.inl 3)) (hf : f_X3_opens a0 a1 a2 M K) (hst : (rest.map fun v => v.category).sum ≤ 8) (hF : 1 ≤ F) (hL : 22 ≤ L) (kk : ∀ M1, K M1 → V l G X bc bs M1 (pc + 3) lv rest) : V l G X bc bs M pc lv (.int a2 :: .int a1 :: .ref a0 :: rest) := r_callV (n := 2) (As := [.int a1, .int a2]) h (m_X3_opens hl hf) 3 rfl hk rfl ⟨by decide, by decide, by decide +kernel⟩ d q1339 q1340 q1341 q137 q1342 rfl rfl hst hF hL (Nat.zero_le _) (Nat.zero_le _) (kV_go kk) kN_go
def f_X1_open (a0 : Nat) (a1 : Int32) (M : gM) (K : Int32 → gM → Prop) (KX : Addr → String → gM → Prop) : Prop :=
  kd M a0 = some (.inl 1) ∧ f_X1_letterAt a0 a1 M (fun b3 M2 => kd M2 a0 = some (.inl 1) ∧ f_X1_waits a0 b3 M2 (fun x6 M5 => if x6 = 0 then ∀ n21, sz M5 ≤ n21 → KX (sz M5) "java/lang/IllegalStateException" (sZ M5 n21) else kd M5 a0 = some (.inl 1) ∧ f_X1_remembers a0 M5 (fun M9 => kd M9 a0 = some (.inl 1) ∧ ∃ b11, rv M9 a0 1 = some b11 ∧ kd M9 b3 = some (.inl 7) ∧ kd M9 b11 = some (.inl 3) ∧ f_X3_opens b11 a1 (iv M9 b3 1) M9 (fun M15 => kd M15 a0 = some (.inl 1) ∧ ∃ b17, rv M15 a0 1 = some b17 ∧ kd M15 b17 = some (.inl 3) ∧ kd M15 b3 = some (.inl 7) ∧ K ((iv M15 b17 22) - (iv M15 b3 4)) M15)))) KX
set_option maxHeartbeats 4000000 in
theorem m_X1_open {l : Launch} (hl : l.stackTraces = false) {G : gG} {a0 : Nat} {a1 : Int32} {M : gM} {K : Int32 → gM → Prop} {KX : Addr → String → gM → Prop} (hf : f_X1_open a0 a1 M K KX) : gMet l G yX1_open (ws_ yX1_open cX1_open 3 (some Jvm.ClassFile.FieldType.int)) ({ frames := 31, cells := 2, slots := 12, locals := 690 }) M [.ref a0, .int a1] (kI K) KX := by
  refine gm_of hl (ret := (some Jvm.ClassFile.FieldType.int)) rfl (Nat.le_of_ble_eq_true rfl) (fun X h hq => ?_)
  have h : hX l G X cX1_open 3 "GlacierMail" 31 690 := h
  have hf := hf
  show V l G X 2 12 M 0 [(0, .ref a0), (1, .int a1)] []
  unfold f_X1_open at hf
  refine r_aload_n h 0 dX1_open_0 rfl rfl ?_
  refine r_iload_n h 1 dX1_open_1 rfl rfl ?_
  obtain ⟨k1, hf⟩ := hf
  refine c1261 hl h dX1_open_2 k1 hf (Nat.le_of_ble_eq_true rfl) (by decide) (by decide) (by decide) (by decide) (fun b3 M2 hf => ?_) (fun q9 E9 M9 hf => r_out h hq hf)
  refine r_astore_n (lv' := [(2, .ref b3), (0, .ref a0), (1, .int a1)]) h dX1_open_5 rfl (by decide) rfl ?_
  refine r_aload_n h 1 dX1_open_6 rfl rfl ?_
  refine r_aload_n h 0 dX1_open_7 rfl rfl ?_
  obtain ⟨k4, hf⟩ := hf
  refine c807 hl h dX1_open_8 k4 hf (Nat.le_of_ble_eq_true rfl) (by decide) (by decide) (fun x6 M5 hf => ?_)
  refine r_if_ne (tgt := 22) h dX1_open_11 (by decide) (fun c7 => ?_) (fun c7 => ?_)
  · have hf := ite_f c7 hf
    refine r_aload_n h 1 dX1_open_22 rfl rfl ?_
    obtain ⟨k8, hf⟩ := hf
    refine c1303 hl h dX1_open_23 k8 hf (Nat.le_of_ble_eq_true rfl) (by decide) (by decide) (fun M9 hf => ?_)
    refine r_aload_n h 1 dX1_open_26 rfl rfl ?_
    obtain ⟨k10, hf⟩ := hf
    obtain ⟨b11, e12, hf⟩ := hf
    refine g573 h dX1_open_27 k10 e12 ?_
    refine r_iload_n h 2 dX1_open_30 rfl rfl ?_
    refine r_aload_n h 0 dX1_open_31 rfl rfl ?_
    obtain ⟨k13, hf⟩ := hf
    refine g282 h dX1_open_32 k13 ?_
    obtain ⟨k14, hf⟩ := hf
    refine c1339 hl h dX1_open_35 k14 hf (Nat.le_of_ble_eq_true rfl) (by decide) (by decide) (fun M15 hf => ?_)
    refine r_aload_n h 1 dX1_open_38 rfl rfl ?_
    obtain ⟨k16, hf⟩ := hf
    obtain ⟨b17, e18, hf⟩ := hf
    refine g573 h dX1_open_39 k16 e18 ?_
    obtain ⟨k19, hf⟩ := hf
    refine g381 h dX1_open_42 k19 ?_
    refine r_aload_n h 0 dX1_open_45 rfl rfl ?_
    obtain ⟨k20, hf⟩ := hf
    refine g293 h dX1_open_46 k20 ?_
    refine r_isub h dX1_open_49 ?_
    exact r_ireturn h hq dX1_open_50 ⟨_, rfl, hf⟩
  · have hf := ite_t c7 hf
    exact x1324 h hq dX1_open_14 dX1_open_17 dX1_open_18 dX1_open_21 (by decide) (by decide) (by decide) (by decide) (Nat.le_of_ble_eq_true rfl) (fun n21 hn => hf n21 hn)
theorem c1320 {l : Launch} {G : gG} {X : gX} {cc : ByteArray} {nL F L bc bs pc : Nat} {M : gM} {lv : List (Nat × Value)} {rest : List Value} {a0 : Nat} {a1 : Int32} {K : Int32 → gM → Prop} {KX : Addr → String → gM → Prop} (hl : l.stackTraces = false) (h : hX l G X cc nL "GlacierMailLaw" F L) (d : decode cc pc = .ok (.invokevirtual 54, 3)) (hk : kd M a0 = some (.inl 1)) (hf : f_X1_open a0 a1 M K KX) (hst : (rest.map fun v => v.category).sum ≤ 8) (hF : 32 ≤ F) (hL : 712 ≤ L) (h1 : 2 ≤ bc) (h2 : 12 ≤ bs) (kk : ∀ x M1, K x M1 → V l G X (bc - 2) (bs - 12) M1 (pc + 3) lv (.int x :: rest)) (kx : ∀ q E M1, KX q E M1 → VX l G X (bc - 2) (bs - 12) M1 pc lv q E) : V l G X bc bs M pc lv (.int a1 :: .ref a0 :: rest) := r_callV (n := 1) (As := [.int a1]) h (m_X1_open hl hf) 1 rfl hk rfl ⟨by decide, by decide, by decide +kernel⟩ d q1320 q1321 q1322 q135 q1323 rfl rfl hst hF hL h1 h2 (kI_go kk) kx
def f_X0_open (a0 : Nat) (a1 : Int32) (a2 : Nat) (M : gM) (K : Int32 → gM → Prop) : Prop :=
  kd M a0 = some (.inl 1) ∧ f_X1_open a0 a1 M (fun x3 M2 => inA M2 a2 2 0 ∧ ∀ M5, M5 = sJ M2 a2 (ix 0) (x3.toInt64) → K 0 M5) (fun q9 E9 M9 => (E9 = "java/lang/IndexOutOfBoundsException" ∧ K 1 M9) ∨ (E9 = "java/lang/IllegalStateException" ∧ K 2 M9))
set_option maxHeartbeats 4000000 in
theorem m_X0_open {l : Launch} (hl : l.stackTraces = false) {G : gG} {a0 : Nat} {a1 : Int32} {a2 : Nat} {M : gM} {K : Int32 → gM → Prop} (hf : f_X0_open a0 a1 a2 M K) : gMet l G yX0_open (wsW_ yX0_open cX0_open 4 (some Jvm.ClassFile.FieldType.int) [(0, 9, 12, 28), (0, 9, 15, 57)]) ({ frames := 32, cells := 2, slots := 12, locals := 712 }) M [.ref a0, .int a1, .ref a2] (kI K) kN := by
  refine gm_ofH hl (ret := (some Jvm.ClassFile.FieldType.int)) rfl (Nat.le_of_ble_eq_true rfl) (fun X h hq => ?_)
  have h : hX l G X cX0_open 4 "GlacierMailLaw" 32 712 := h
  have hf := hf
  show V l G X 2 12 M 0 [(0, .ref a0), (1, .int a1), (2, .ref a2)] []
  unfold f_X0_open at hf
  refine r_aload_n h 2 dX0_open_0 rfl rfl ?_
  refine r_iconst (v := 0) h dX0_open_1 (by decide) ?_
  refine r_aload_n h 0 dX0_open_2 rfl rfl ?_
  refine r_iload_n h 1 dX0_open_3 rfl rfl ?_
  obtain ⟨k1, hf⟩ := hf
  refine c1320 hl h dX0_open_4 k1 hf (Nat.le_of_ble_eq_true rfl) (by decide) (by decide) (by decide) (by decide) (fun x3 M2 hf => ?_) (fun q9 E9 M9 hf => ?_)
  · skip
    refine r_i2l h dX0_open_7 ?_
    obtain ⟨j4, hf⟩ := hf
    refine r_lastore h dX0_open_8 j4 ?_
    refine r_goW (fun M5 eM5 => ?_)
    have hf := hf M5 eM5
    refine r_goto (tgt := 18) h dX0_open_9 (by decide) ?_
    refine r_iconst (v := 0) h dX0_open_18 (by decide) ?_
    exact r_ireturn h hq dX0_open_19 ⟨_, rfl, hf⟩
  · rcases hf with ⟨rfl, hf⟩ | ⟨rfl, hf⟩
    · refine r_catch h hq 0 (E := "java/lang/IndexOutOfBoundsException") (nm := "java/lang/IndexOutOfBoundsException") rfl (fun z hz => nomatch hz) (by decide) (by decide) q1153 (List.mem_of_getElem? (i := 8) rfl) ?_
      refine r_astore_n (lv' := [(3, .ref q9), (0, .ref a0), (1, .int a1), (2, .ref a2)]) h dX0_open_12 rfl (by decide) rfl ?_
      refine r_iconst (v := 1) h dX0_open_13 (by decide) ?_
      exact r_ireturn h hq dX0_open_14 ⟨_, rfl, hf⟩
    · refine r_catch h hq 1 (E := "java/lang/IllegalStateException") (nm := "java/lang/IllegalStateException") rfl (List.forall_mem_cons.mpr ⟨Or.inr ⟨by decide, "java/lang/IndexOutOfBoundsException", q1153, List.mem_of_getElem? (i := 19) rfl⟩, List.forall_mem_nil _⟩) (by decide) (by decide) q1319 (List.mem_of_getElem? (i := 10) rfl) ?_
      refine r_astore_n (lv' := [(3, .ref q9), (0, .ref a0), (1, .int a1), (2, .ref a2)]) h dX0_open_15 rfl (by decide) rfl ?_
      refine r_iconst (v := 2) h dX0_open_16 (by decide) ?_
      exact r_ireturn h hq dX0_open_17 ⟨_, rfl, hf⟩
theorem c1316 {l : Launch} {G : gG} {X : gX} {cc : ByteArray} {nL F L bc bs pc : Nat} {M : gM} {lv : List (Nat × Value)} {rest : List Value} {a0 : Nat} {a1 : Int32} {a2 : Nat} {K : Int32 → gM → Prop} (hl : l.stackTraces = false) (h : hX l G X cc nL "GlacierMailLaw" F L) (d : decode cc pc = .ok (.invokestatic 195, 3)) (hf : f_X0_open a0 a1 a2 M K) (hst : (rest.map fun v => v.category).sum ≤ 8) (hF : 33 ≤ F) (hL : 735 ≤ L) (h1 : 2 ≤ bc) (h2 : 12 ≤ bs) (kk : ∀ x M1, K x M1 → V l G X (bc - 2) (bs - 12) M1 (pc + 3) lv (.int x :: rest)) : V l G X bc bs M pc lv (.ref a2 :: .int a1 :: .ref a0 :: rest) := r_callSH (n := 3) (As := [.ref a0, .int a1, .ref a2]) h (m_X0_open hl hf) ⟨by decide, by decide, by decide +kernel⟩ d q1316 q1317 q134 q1318 rfl rfl hst hF hL h1 h2 (kI_go kk) kN_go
def f_X3_mayOpen (a0 : Nat) (a1 : Int32) (a2 : Nat) (a3 : Int32) (M : gM) (K : Int32 → gM → Prop) : Prop :=
  ∀ P51 : Nat → Int32 → gM → Prop,
  (∀ (v0 : Nat) (v4 : Int32) (M : gM), (kd M v0 = some (.inl 3) ∧ if (iv M v0 16) ≤ v4 then K 0 M else ∃ b22, rv M v0 5 = some b22 ∧ inA M b22 4 v4 ∧ ∃ b25, rv M b22 (ix v4) = some b25 ∧ f_opens b25 M (fun x28 M27 => if x28 = 0 then P51 v0 (v4 + 1) M27 else kd M27 v0 = some (.inl 3) ∧ ∃ b31, rv M27 v0 5 = some b31 ∧ inA M27 b31 4 v4 ∧ ∃ b34, rv M27 b31 (ix v4) = some b34 ∧ ∃ b36, rv M27 v0 8 = some b36 ∧ f_is b34 b36 M27 (fun x39 M38 => if x39 = 0 then P51 v0 (v4 + 1) M38 else K 1 M38))) → P51 v0 v4 M) →
  kd M a2 = some (.inl 7) ∧ kd M a0 = some (.inl 3) ∧ f_X3_tells a0 (iv M a2 2) (iv M a0 10) (iv M a0 22) 0 M (fun M3 => kd M3 a0 = some (.inl 3) ∧ ∃ b5, rv M3 a0 8 = some b5 ∧ inA M3 b5 0 5 ∧ ∀ M8, M8 = sI M3 b5 (ix 5) a1 → kd M8 a0 = some (.inl 3) ∧ ∃ b10, rv M8 a0 8 = some b10 ∧ kd M8 a2 = some (.inl 7) ∧ inA M8 b10 0 6 ∧ ∀ M14, M14 = sI M8 b10 (ix 6) ((iv M8 a0 22) - (iv M8 a2 4)) → kd M14 a0 = some (.inl 3) ∧ ∃ b16, rv M14 a0 8 = some b16 ∧ inA M14 b16 0 7 ∧ ∀ M19, M19 = sI M14 b16 (ix 7) a3 → P51 a0 0 M19)
set_option maxHeartbeats 4000000 in
theorem m_X3_mayOpen {l : Launch} (hl : l.stackTraces = false) {G : gG} {a0 : Nat} {a1 : Int32} {a2 : Nat} {a3 : Int32} {M : gM} {K : Int32 → gM → Prop} (hf : f_X3_mayOpen a0 a1 a2 a3 M K) : gMet l G yX3_mayOpen (ws_ yX3_mayOpen cX3_mayOpen 5 (some Jvm.ClassFile.FieldType.boolean)) ({ frames := 25, cells := 0, slots := 0, locals := 550 }) M [.ref a0, .int a1, .ref a2, .int a3] (kI K) kN := by
  refine gm_of hl (ret := (some Jvm.ClassFile.FieldType.boolean)) rfl (Nat.le_of_ble_eq_true rfl) (fun X h hq => ?_)
  have h : hX l G X cX3_mayOpen 5 "GlacierMail$State" 25 550 := h
  have hf := hf
  show V l G X 0 0 M 0 [(0, .ref a0), (1, .int a1), (2, .ref a2), (3, .int a3)] []
  have hf := hf
    (fun v0 v4 M => V l G X 0 0 M 51 [(0, .ref v0), (4, .int v4)] [])
    (by
      intro v0 v4 M hf
      show V l G X 0 0 M 51 [(0, .ref v0), (4, .int v4)] []
      refine r_iload h 1 dX3_mayOpen_51 rfl ?_
      refine r_aload_n h 0 dX3_mayOpen_53 rfl rfl ?_
      obtain ⟨k20, hf⟩ := hf
      refine g363 h dX3_mayOpen_54 k20 ?_
      refine r_icmp_ge (tgt := 98) h dX3_mayOpen_57 (by decide) (fun c21 => ?_) (fun c21 => ?_)
      · have hf := ite_t c21 hf
        refine r_iconst (v := 0) h dX3_mayOpen_98 (by decide) ?_
        exact r_zreturn h hq dX3_mayOpen_99 (by decide) ⟨_, rfl, hf⟩
      · have hf := ite_f c21 hf
        refine r_aload_n h 0 dX3_mayOpen_60 rfl rfl ?_
        obtain ⟨b22, e23, hf⟩ := hf
        refine g334 h dX3_mayOpen_61 k20 e23 ?_
        refine r_iload h 1 dX3_mayOpen_64 rfl ?_
        obtain ⟨j24, b25, e26, hf⟩ := hf
        refine r_aaload h 4 (by decide) (by decide) dX3_mayOpen_66 j24 (v := .ref b25) (by rw [e26]; rfl) ?_
        refine c1362 hl h dX3_mayOpen_67 hf (Nat.le_of_ble_eq_true rfl) (by decide) (by decide) (fun x28 M27 hf => ?_)
        refine r_if_eq (tgt := 92) h dX3_mayOpen_70 (by decide) (fun c29 => ?_) (fun c29 => ?_)
        · have hf := ite_t c29 hf
          refine r_iinc (v := v4 + 1) (lv' := [(4, .int (v4 + 1)), (0, .ref v0)]) h 1 dX3_mayOpen_92 rfl rfl (by decide) rfl ?_
          refine r_goto (tgt := 51) h dX3_mayOpen_95 (by decide) ?_
          exact V.sub [1, 0] rfl hf
        · have hf := ite_f c29 hf
          refine r_aload_n h 0 dX3_mayOpen_73 rfl rfl ?_
          obtain ⟨k30, hf⟩ := hf
          obtain ⟨b31, e32, hf⟩ := hf
          refine g334 h dX3_mayOpen_74 k30 e32 ?_
          refine r_iload h 1 dX3_mayOpen_77 rfl ?_
          obtain ⟨j33, b34, e35, hf⟩ := hf
          refine r_aaload h 4 (by decide) (by decide) dX3_mayOpen_79 j33 (v := .ref b34) (by rw [e35]; rfl) ?_
          refine r_aload_n h 0 dX3_mayOpen_80 rfl rfl ?_
          obtain ⟨b36, e37, hf⟩ := hf
          refine g340 h dX3_mayOpen_81 k30 e37 ?_
          refine c678 hl h dX3_mayOpen_84 hf (Nat.le_of_ble_eq_true rfl) (by decide) (by decide) (fun x39 M38 hf => ?_)
          refine r_if_eq (tgt := 92) h dX3_mayOpen_87 (by decide) (fun c40 => ?_) (fun c40 => ?_)
          · have hf := ite_t c40 hf
            refine r_iinc (v := v4 + 1) (lv' := [(4, .int (v4 + 1)), (0, .ref v0)]) h 1 dX3_mayOpen_92 rfl rfl (by decide) rfl ?_
            refine r_goto (tgt := 51) h dX3_mayOpen_95 (by decide) ?_
            exact V.sub [1, 0] rfl hf
          · have hf := ite_f c40 hf
            refine r_iconst (v := 1) h dX3_mayOpen_90 (by decide) ?_
            exact r_zreturn h hq dX3_mayOpen_91 (by decide) ⟨_, rfl, hf⟩)
  refine r_aload_n h 0 dX3_mayOpen_0 rfl rfl ?_
  refine r_aload_n h 2 dX3_mayOpen_1 rfl rfl ?_
  obtain ⟨k1, hf⟩ := hf
  refine g285 h dX3_mayOpen_2 k1 ?_
  refine r_aload_n h 0 dX3_mayOpen_5 rfl rfl ?_
  obtain ⟨k2, hf⟩ := hf
  refine g344 h dX3_mayOpen_6 k2 ?_
  refine r_aload_n h 0 dX3_mayOpen_9 rfl rfl ?_
  refine g379 h dX3_mayOpen_10 k2 ?_
  refine r_iconst (v := 0) h dX3_mayOpen_13 (by decide) ?_
  refine c674 hl h dX3_mayOpen_14 k2 hf (Nat.le_of_ble_eq_true rfl) (by decide) (by decide) (fun M3 hf => ?_)
  refine r_aload_n h 0 dX3_mayOpen_17 rfl rfl ?_
  obtain ⟨k4, hf⟩ := hf
  obtain ⟨b5, e6, hf⟩ := hf
  refine g340 h dX3_mayOpen_18 k4 e6 ?_
  refine r_iconst (v := 5) h dX3_mayOpen_21 (by decide) ?_
  refine r_iload_n h 1 dX3_mayOpen_22 rfl rfl ?_
  obtain ⟨j7, hf⟩ := hf
  refine r_iastore h dX3_mayOpen_23 j7 ?_
  refine r_goW (fun M8 eM8 => ?_)
  have hf := hf M8 eM8
  refine r_aload_n h 0 dX3_mayOpen_24 rfl rfl ?_
  obtain ⟨k9, hf⟩ := hf
  obtain ⟨b10, e11, hf⟩ := hf
  refine g340 h dX3_mayOpen_25 k9 e11 ?_
  refine r_bipush (v := 6) h dX3_mayOpen_28 (by decide) ?_
  refine r_aload_n h 0 dX3_mayOpen_30 rfl rfl ?_
  refine g379 h dX3_mayOpen_31 k9 ?_
  refine r_aload_n h 2 dX3_mayOpen_34 rfl rfl ?_
  obtain ⟨k12, hf⟩ := hf
  refine g292 h dX3_mayOpen_35 k12 ?_
  refine r_isub h dX3_mayOpen_38 ?_
  obtain ⟨j13, hf⟩ := hf
  refine r_iastore h dX3_mayOpen_39 j13 ?_
  refine r_goW (fun M14 eM14 => ?_)
  have hf := hf M14 eM14
  refine r_aload_n h 0 dX3_mayOpen_40 rfl rfl ?_
  obtain ⟨k15, hf⟩ := hf
  obtain ⟨b16, e17, hf⟩ := hf
  refine g340 h dX3_mayOpen_41 k15 e17 ?_
  refine r_bipush (v := 7) h dX3_mayOpen_44 (by decide) ?_
  refine r_iload_n h 3 dX3_mayOpen_46 rfl rfl ?_
  obtain ⟨j18, hf⟩ := hf
  refine r_iastore h dX3_mayOpen_47 j18 ?_
  refine r_goW (fun M19 eM19 => ?_)
  have hf := hf M19 eM19
  refine r_iconst (v := 0) h dX3_mayOpen_48 (by decide) ?_
  refine r_istore (lv' := [(4, .int 0), (0, .ref a0), (1, .int a1), (2, .ref a2), (3, .int a3)]) h dX3_mayOpen_49 (by decide) rfl ?_
  exact V.sub [1, 0] rfl hf
theorem c1358 {l : Launch} {G : gG} {X : gX} {cc : ByteArray} {nL F L bc bs pc : Nat} {M : gM} {lv : List (Nat × Value)} {rest : List Value} {a0 : Nat} {a1 : Int32} {a2 : Nat} {a3 : Int32} {K : Int32 → gM → Prop} (hl : l.stackTraces = false) (h : hX l G X cc nL "GlacierMail" F L) (d : decode cc pc = .ok (.invokevirtual 294, 3)) (hk : kd M a0 = some (.inl 3)) (hf : f_X3_mayOpen a0 a1 a2 a3 M K) (hst : (rest.map fun v => v.category).sum ≤ 8) (hF : 26 ≤ F) (hL : 574 ≤ L) (kk : ∀ x M1, K x M1 → V l G X bc bs M1 (pc + 3) lv (.int x :: rest)) : V l G X bc bs M pc lv (.int a3 :: .ref a2 :: .int a1 :: .ref a0 :: rest) := r_callV (n := 3) (As := [.int a1, .ref a2, .int a3]) h (m_X3_mayOpen hl hf) 3 rfl hk rfl ⟨by decide, by decide, by decide +kernel⟩ d q1358 q1359 q1360 q137 q1361 rfl rfl hst hF hL (Nat.zero_le _) (Nat.zero_le _) (kI_go kk) kN_go
def f_X1_opener (a0 : Nat) (a1 : Nat) (M : gM) (K : Int32 → gM → Prop) : Prop :=
  ∀ P35 : Nat → Nat → Int32 → Int32 → gM → Prop,
  (∀ (v0 : Nat) (v1 : Nat) (v2 : Int32) (v3 : Int32) (M : gM), (kd M v0 = some (.inl 1) ∧ ∃ b16, rv M v0 1 = some b16 ∧ kd M b16 = some (.inl 3) ∧ if (iv M b16 13) ≤ v3 then K (-1) M else ∃ b20, rv M v0 1 = some b20 ∧ kd M b20 = some (.inl 3) ∧ ∃ b23, rv M b20 2 = some b23 ∧ inA M b23 7 v3 ∧ ∃ b26, rv M b23 (ix v3) = some b26 ∧ kd M b26 = some (.inl 6) ∧ kd M v1 = some (.inl 7) ∧ if (iv M b26 2) = (iv M v1 2) then ∃ b31, rv M v0 1 = some b31 ∧ kd M b31 = some (.inl 3) ∧ f_X3_mayOpen b31 v3 v1 v2 M (fun x35 M34 => if x35 = 0 then P35 v0 v1 v2 (v3 + 1) M34 else K v3 M34) else P35 v0 v1 v2 (v3 + 1) M) → P35 v0 v1 v2 v3 M) →
  kd M a0 = some (.inl 1) ∧ ∃ b2, rv M a0 1 = some b2 ∧ kd M b2 = some (.inl 3) ∧ ∃ b5, rv M b2 2 = some b5 ∧ kd M a1 = some (.inl 7) ∧ inA M b5 7 (iv M a1 1) ∧ ∃ b9, rv M b5 (ix (iv M a1 1)) = some b9 ∧ kd M b9 = some (.inl 6) ∧ if (iv M b9 2) = (iv M a1 2) then K (iv M a1 1) M else f_X1_deepOut a0 a1 M (fun x14 M13 => P35 a0 a1 x14 0 M13)
set_option maxHeartbeats 4000000 in
theorem m_X1_opener {l : Launch} (hl : l.stackTraces = false) {G : gG} {a0 : Nat} {a1 : Nat} {M : gM} {K : Int32 → gM → Prop} (hf : f_X1_opener a0 a1 M K) : gMet l G yX1_opener (ws_ yX1_opener cX1_opener 4 (some Jvm.ClassFile.FieldType.int)) ({ frames := 30, cells := 0, slots := 0, locals := 669 }) M [.ref a0, .ref a1] (kI K) kN := by
  refine gm_of hl (ret := (some Jvm.ClassFile.FieldType.int)) rfl (Nat.le_of_ble_eq_true rfl) (fun X h hq => ?_)
  have h : hX l G X cX1_opener 4 "GlacierMail" 30 669 := h
  have hf := hf
  show V l G X 0 0 M 0 [(0, .ref a0), (1, .ref a1)] []
  have hf := hf
    (fun v0 v1 v2 v3 M => V l G X 0 0 M 35 [(0, .ref v0), (1, .ref v1), (2, .int v2), (3, .int v3)] [])
    (by
      intro v0 v1 v2 v3 M hf
      show V l G X 0 0 M 35 [(0, .ref v0), (1, .ref v1), (2, .int v2), (3, .int v3)] []
      refine r_iload_n h 3 dX1_opener_35 rfl rfl ?_
      refine r_aload_n h 0 dX1_opener_36 rfl rfl ?_
      obtain ⟨k15, hf⟩ := hf
      obtain ⟨b16, e17, hf⟩ := hf
      refine g573 h dX1_opener_37 k15 e17 ?_
      obtain ⟨k18, hf⟩ := hf
      refine g355 h dX1_opener_40 k18 ?_
      refine r_icmp_ge (tgt := 86) h dX1_opener_43 (by decide) (fun c19 => ?_) (fun c19 => ?_)
      · have hf := ite_t c19 hf
        refine r_iconst (v := (-1)) h dX1_opener_86 (by decide) ?_
        exact r_ireturn h hq dX1_opener_87 ⟨_, rfl, hf⟩
      · have hf := ite_f c19 hf
        refine r_aload_n h 0 dX1_opener_46 rfl rfl ?_
        obtain ⟨b20, e21, hf⟩ := hf
        refine g573 h dX1_opener_47 k15 e21 ?_
        obtain ⟨k22, hf⟩ := hf
        obtain ⟨b23, e24, hf⟩ := hf
        refine g326 h dX1_opener_50 k22 e24 ?_
        refine r_iload_n h 3 dX1_opener_53 rfl rfl ?_
        obtain ⟨j25, b26, e27, hf⟩ := hf
        refine r_aaload h 7 (by decide) (by decide) dX1_opener_54 j25 (v := .ref b26) (by rw [e27]; rfl) ?_
        obtain ⟨k28, hf⟩ := hf
        refine g266 h dX1_opener_55 k28 ?_
        refine r_aload_n h 1 dX1_opener_58 rfl rfl ?_
        obtain ⟨k29, hf⟩ := hf
        refine g286 h dX1_opener_59 k29 ?_
        refine r_icmp_ne (tgt := 80) h dX1_opener_62 (by decide) (fun c30 => ?_) (fun c30 => ?_)
        · have hf := ite_f c30 hf
          refine r_iinc (v := v3 + 1) (lv' := [(3, .int (v3 + 1)), (0, .ref v0), (1, .ref v1), (2, .int v2)]) h 3 dX1_opener_80 rfl rfl (by decide) rfl ?_
          refine r_goto (tgt := 35) h dX1_opener_83 (by decide) ?_
          exact V.sub [1, 2, 3, 0] rfl hf
        · have hf := ite_t c30 hf
          refine r_aload_n h 0 dX1_opener_65 rfl rfl ?_
          obtain ⟨b31, e32, hf⟩ := hf
          refine g573 h dX1_opener_66 k15 e32 ?_
          refine r_iload_n h 3 dX1_opener_69 rfl rfl ?_
          refine r_aload_n h 1 dX1_opener_70 rfl rfl ?_
          refine r_iload_n h 2 dX1_opener_71 rfl rfl ?_
          obtain ⟨k33, hf⟩ := hf
          refine c1358 hl h dX1_opener_72 k33 hf (Nat.le_of_ble_eq_true rfl) (by decide) (by decide) (fun x35 M34 hf => ?_)
          refine r_if_eq (tgt := 80) h dX1_opener_75 (by decide) (fun c36 => ?_) (fun c36 => ?_)
          · have hf := ite_t c36 hf
            refine r_iinc (v := v3 + 1) (lv' := [(3, .int (v3 + 1)), (0, .ref v0), (1, .ref v1), (2, .int v2)]) h 3 dX1_opener_80 rfl rfl (by decide) rfl ?_
            refine r_goto (tgt := 35) h dX1_opener_83 (by decide) ?_
            exact V.sub [1, 2, 3, 0] rfl hf
          · have hf := ite_f c36 hf
            refine r_iload_n h 3 dX1_opener_78 rfl rfl ?_
            exact r_ireturn h hq dX1_opener_79 ⟨_, rfl, hf⟩)
  refine r_aload_n h 0 dX1_opener_0 rfl rfl ?_
  obtain ⟨k1, hf⟩ := hf
  obtain ⟨b2, e3, hf⟩ := hf
  refine g573 h dX1_opener_1 k1 e3 ?_
  obtain ⟨k4, hf⟩ := hf
  obtain ⟨b5, e6, hf⟩ := hf
  refine g326 h dX1_opener_4 k4 e6 ?_
  refine r_aload_n h 1 dX1_opener_7 rfl rfl ?_
  obtain ⟨k7, hf⟩ := hf
  refine g282 h dX1_opener_8 k7 ?_
  obtain ⟨j8, b9, e10, hf⟩ := hf
  refine r_aaload h 7 (by decide) (by decide) dX1_opener_11 j8 (v := .ref b9) (by rw [e10]; rfl) ?_
  obtain ⟨k11, hf⟩ := hf
  refine g266 h dX1_opener_12 k11 ?_
  refine r_aload_n h 1 dX1_opener_15 rfl rfl ?_
  refine g286 h dX1_opener_16 k7 ?_
  refine r_icmp_ne (tgt := 27) h dX1_opener_19 (by decide) (fun c12 => ?_) (fun c12 => ?_)
  · have hf := ite_f c12 hf
    refine r_aload_n h 0 dX1_opener_27 rfl rfl ?_
    refine r_aload_n h 1 dX1_opener_28 rfl rfl ?_
    refine c1269 hl h dX1_opener_29 k1 hf (Nat.le_of_ble_eq_true rfl) (by decide) (by decide) (fun x14 M13 hf => ?_)
    refine r_istore_n (lv' := [(2, .int x14), (0, .ref a0), (1, .ref a1)]) h dX1_opener_32 rfl (by decide) rfl ?_
    refine r_iconst (v := 0) h dX1_opener_33 (by decide) ?_
    refine r_istore_n (lv' := [(3, .int 0), (2, .int x14), (0, .ref a0), (1, .ref a1)]) h dX1_opener_34 rfl (by decide) rfl ?_
    exact V.sub [2, 3, 1, 0] rfl hf
  · have hf := ite_t c12 hf
    refine r_aload_n h 1 dX1_opener_22 rfl rfl ?_
    refine g282 h dX1_opener_23 k7 ?_
    exact r_ireturn h hq dX1_opener_26 ⟨_, rfl, hf⟩
theorem c1354 {l : Launch} {G : gG} {X : gX} {cc : ByteArray} {nL F L bc bs pc : Nat} {M : gM} {lv : List (Nat × Value)} {rest : List Value} {a0 : Nat} {a1 : Nat} {K : Int32 → gM → Prop} (hl : l.stackTraces = false) (h : hX l G X cc nL "GlacierMail" F L) (d : decode cc pc = .ok (.invokevirtual 298, 3)) (hk : kd M a0 = some (.inl 1)) (hf : f_X1_opener a0 a1 M K) (hst : (rest.map fun v => v.category).sum ≤ 8) (hF : 31 ≤ F) (hL : 692 ≤ L) (kk : ∀ x M1, K x M1 → V l G X bc bs M1 (pc + 3) lv (.int x :: rest)) : V l G X bc bs M pc lv (.ref a1 :: .ref a0 :: rest) := r_callV (n := 1) (As := [.ref a1]) h (m_X1_opener hl hf) 1 rfl hk rfl ⟨by decide, by decide, by decide +kernel⟩ d q1354 q1356 qs39 q135 q1357 rfl rfl hst hF hL (Nat.zero_le _) (Nat.zero_le _) (kI_go kk) kN_go
def f_X1_yearMore (a0 : Nat) (M : gM) (K : gM → Prop) : Prop :=
  ∀ P15 : Nat → Int32 → gM → Prop,
  (∀ (v0 : Nat) (v1 : Int32) (M : gM), (kd M v0 = some (.inl 1) ∧ ∃ b7, rv M v0 1 = some b7 ∧ kd M b7 = some (.inl 3) ∧ if (iv M b7 14) ≤ v1 then K M else ∃ b11, rv M v0 1 = some b11 ∧ kd M b11 = some (.inl 3) ∧ ∃ b14, rv M b11 3 = some b14 ∧ inA M b14 8 v1 ∧ ∃ b17, rv M b14 (ix v1) = some b17 ∧ f_X1_waits v0 b17 M (fun x20 M19 => if x20 = 0 then P15 v0 (v1 + 1) M19 else kd M19 v0 = some (.inl 1) ∧ ∃ b23, rv M19 v0 1 = some b23 ∧ kd M19 b23 = some (.inl 3) ∧ ∃ b26, rv M19 b23 3 = some b26 ∧ inA M19 b26 8 v1 ∧ ∃ b29, rv M19 b26 (ix v1) = some b29 ∧ f_X1_opener v0 b29 M19 (fun x32 M31 => if x32 = (-1) then P15 v0 (v1 + 1) M31 else kd M31 v0 = some (.inl 1) ∧ ∃ b35, rv M31 v0 1 = some b35 ∧ kd M31 b35 = some (.inl 3) ∧ f_X3_opens b35 v1 x32 M31 (fun M38 => P15 v0 (v1 + 1) M38)))) → P15 v0 v1 M) →
  kd M a0 = some (.inl 1) ∧ ∃ b2, rv M a0 1 = some b2 ∧ kd M b2 = some (.inl 3) ∧ ∀ M5, M5 = sI M b2 22 ((iv M b2 22) + 1) → P15 a0 0 M5
set_option maxHeartbeats 4000000 in
theorem m_X1_yearMore {l : Launch} (hl : l.stackTraces = false) {G : gG} {a0 : Nat} {M : gM} {K : gM → Prop} (hf : f_X1_yearMore a0 M K) : gMet l G yX1_yearMore (ws_ yX1_yearMore cX1_yearMore 3 none) ({ frames := 31, cells := 0, slots := 0, locals := 692 }) M [.ref a0] (kV K) kN := by
  refine gm_of hl (ret := none) rfl (Nat.le_of_ble_eq_true rfl) (fun X h hq => ?_)
  have h : hX l G X cX1_yearMore 3 "GlacierMail" 31 692 := h
  have hf := hf
  show V l G X 0 0 M 0 [(0, .ref a0)] []
  have hf := hf
    (fun v0 v1 M => V l G X 0 0 M 15 [(0, .ref v0), (1, .int v1)] [])
    (by
      intro v0 v1 M hf
      show V l G X 0 0 M 15 [(0, .ref v0), (1, .int v1)] []
      refine r_iload_n h 1 dX1_yearMore_15 rfl rfl ?_
      refine r_aload_n h 0 dX1_yearMore_16 rfl rfl ?_
      obtain ⟨k6, hf⟩ := hf
      obtain ⟨b7, e8, hf⟩ := hf
      refine g573 h dX1_yearMore_17 k6 e8 ?_
      obtain ⟨k9, hf⟩ := hf
      refine g358 h dX1_yearMore_20 k9 ?_
      refine r_icmp_ge (tgt := 79) h dX1_yearMore_23 (by decide) (fun c10 => ?_) (fun c10 => ?_)
      · have hf := ite_t c10 hf
        exact r_return h hq dX1_yearMore_79 ⟨rfl, hf⟩
      · have hf := ite_f c10 hf
        refine r_aload_n h 0 dX1_yearMore_26 rfl rfl ?_
        refine r_aload_n h 0 dX1_yearMore_27 rfl rfl ?_
        obtain ⟨b11, e12, hf⟩ := hf
        refine g573 h dX1_yearMore_28 k6 e12 ?_
        obtain ⟨k13, hf⟩ := hf
        obtain ⟨b14, e15, hf⟩ := hf
        refine g329 h dX1_yearMore_31 k13 e15 ?_
        refine r_iload_n h 1 dX1_yearMore_34 rfl rfl ?_
        obtain ⟨j16, b17, e18, hf⟩ := hf
        refine r_aaload h 8 (by decide) (by decide) dX1_yearMore_35 j16 (v := .ref b17) (by rw [e18]; rfl) ?_
        refine c807 hl h dX1_yearMore_36 k6 hf (Nat.le_of_ble_eq_true rfl) (by decide) (by decide) (fun x20 M19 hf => ?_)
        refine r_if_ne (tgt := 45) h dX1_yearMore_39 (by decide) (fun c21 => ?_) (fun c21 => ?_)
        · have hf := ite_f c21 hf
          refine r_aload_n h 0 dX1_yearMore_45 rfl rfl ?_
          refine r_aload_n h 0 dX1_yearMore_46 rfl rfl ?_
          obtain ⟨k22, hf⟩ := hf
          obtain ⟨b23, e24, hf⟩ := hf
          refine g573 h dX1_yearMore_47 k22 e24 ?_
          obtain ⟨k25, hf⟩ := hf
          obtain ⟨b26, e27, hf⟩ := hf
          refine g329 h dX1_yearMore_50 k25 e27 ?_
          refine r_iload_n h 1 dX1_yearMore_53 rfl rfl ?_
          obtain ⟨j28, b29, e30, hf⟩ := hf
          refine r_aaload h 8 (by decide) (by decide) dX1_yearMore_54 j28 (v := .ref b29) (by rw [e30]; rfl) ?_
          refine c1354 hl h dX1_yearMore_55 k22 hf (Nat.le_of_ble_eq_true rfl) (by decide) (by decide) (fun x32 M31 hf => ?_)
          refine r_istore_n (lv' := [(2, .int x32), (0, .ref v0), (1, .int v1)]) h dX1_yearMore_58 rfl (by decide) rfl ?_
          refine r_iload_n h 0 dX1_yearMore_59 rfl rfl ?_
          refine r_iconst (v := (-1)) h dX1_yearMore_60 (by decide) ?_
          refine r_icmp_eq (tgt := 73) h dX1_yearMore_61 (by decide) (fun c33 => ?_) (fun c33 => ?_)
          · have hf := ite_t c33 hf
            refine r_iinc (v := v1 + 1) (lv' := [(1, .int (v1 + 1)), (2, .int x32), (0, .ref v0)]) h 2 dX1_yearMore_73 rfl rfl (by decide) rfl ?_
            refine r_goto (tgt := 15) h dX1_yearMore_76 (by decide) ?_
            exact V.sub [2, 0] rfl hf
          · have hf := ite_f c33 hf
            refine r_aload_n h 1 dX1_yearMore_64 rfl rfl ?_
            obtain ⟨k34, hf⟩ := hf
            obtain ⟨b35, e36, hf⟩ := hf
            refine g573 h dX1_yearMore_65 k34 e36 ?_
            refine r_iload_n h 2 dX1_yearMore_68 rfl rfl ?_
            refine r_iload_n h 0 dX1_yearMore_69 rfl rfl ?_
            obtain ⟨k37, hf⟩ := hf
            refine c1339 hl h dX1_yearMore_70 k37 hf (Nat.le_of_ble_eq_true rfl) (by decide) (by decide) (fun M38 hf => ?_)
            refine r_iinc (v := v1 + 1) (lv' := [(1, .int (v1 + 1)), (2, .int x32), (0, .ref v0)]) h 2 dX1_yearMore_73 rfl rfl (by decide) rfl ?_
            refine r_goto (tgt := 15) h dX1_yearMore_76 (by decide) ?_
            exact V.sub [2, 0] rfl hf
        · have hf := ite_t c21 hf
          refine r_goto (tgt := 73) h dX1_yearMore_42 (by decide) ?_
          refine r_iinc (v := v1 + 1) (lv' := [(1, .int (v1 + 1)), (0, .ref v0)]) h 1 dX1_yearMore_73 rfl rfl (by decide) rfl ?_
          refine r_goto (tgt := 15) h dX1_yearMore_76 (by decide) ?_
          exact V.sub [1, 0] rfl hf)
  refine r_aload_n h 0 dX1_yearMore_0 rfl rfl ?_
  obtain ⟨k1, hf⟩ := hf
  obtain ⟨b2, e3, hf⟩ := hf
  refine g573 h dX1_yearMore_1 k1 e3 ?_
  refine r_dup h dX1_yearMore_4 rfl ?_
  obtain ⟨k4, hf⟩ := hf
  refine g381 h dX1_yearMore_5 k4 ?_
  refine r_iconst (v := 1) h dX1_yearMore_8 (by decide) ?_
  refine r_iadd h dX1_yearMore_9 ?_
  refine p381 h dX1_yearMore_10 k4 ?_
  refine r_goW (fun M5 eM5 => ?_)
  have hf := hf M5 eM5
  refine r_iconst (v := 0) h dX1_yearMore_13 (by decide) ?_
  refine r_istore_n (lv' := [(1, .int 0), (0, .ref a0)]) h dX1_yearMore_14 rfl (by decide) rfl ?_
  exact V.sub [1, 0] rfl hf
theorem c1350 {l : Launch} {G : gG} {X : gX} {cc : ByteArray} {nL F L bc bs pc : Nat} {M : gM} {lv : List (Nat × Value)} {rest : List Value} {a0 : Nat} {K : gM → Prop} (hl : l.stackTraces = false) (h : hX l G X cc nL "GlacierMail" F L) (d : decode cc pc = .ok (.invokevirtual 304, 3)) (hk : kd M a0 = some (.inl 1)) (hf : f_X1_yearMore a0 M K) (hst : (rest.map fun v => v.category).sum ≤ 8) (hF : 32 ≤ F) (hL : 714 ≤ L) (kk : ∀ M1, K M1 → V l G X bc bs M1 (pc + 3) lv rest) : V l G X bc bs M pc lv (.ref a0 :: rest) := r_callV (n := 0) (As := []) h (m_X1_yearMore hl hf) 1 rfl hk rfl ⟨by decide, by decide, by decide +kernel⟩ d q1350 q1352 qs38 q135 q1353 rfl rfl hst hF hL (Nat.zero_le _) (Nat.zero_le _) (kV_go kk) kN_go
def f_X1_years (a0 : Nat) (a1 : Int32) (M : gM) (K : Int32 → gM → Prop) (KX : Addr → String → gM → Prop) : Prop :=
  ∀ P30 : Nat → Int32 → Int32 → gM → Prop,
  ∀ P47 : Nat → Int32 → Int32 → Int32 → gM → Prop,
  (∀ (v0 : Nat) (v1 : Int32) (s0 : Int32) (M : gM), (f_X1_must s0 M (fun M9 => kd M9 v0 = some (.inl 1) ∧ f_X1_remembers v0 M9 (fun M11 => kd M11 v0 = some (.inl 1) ∧ ∃ b13, rv M11 v0 1 = some b13 ∧ kd M11 b13 = some (.inl 3) ∧ P47 v0 v1 (iv M11 b13 23) 0 M11)) KX) → P30 v0 v1 s0 M) →
  (∀ (v0 : Nat) (v1 : Int32) (v2 : Int32) (v3 : Int32) (M : gM), (if v1 ≤ v3 then kd M v0 = some (.inl 1) ∧ ∃ b18, rv M v0 1 = some b18 ∧ kd M b18 = some (.inl 3) ∧ K ((iv M b18 23) - v2) M else kd M v0 = some (.inl 1) ∧ f_X1_yearMore v0 M (fun M22 => P47 v0 v1 v2 (v3 + 1) M22)) → P47 v0 v1 v2 v3 M) →
  f_X1_isIn a1 1 50 M (fun x2 M1 => if x2 = 0 then P30 a0 a1 0 M1 else kd M1 a0 = some (.inl 1) ∧ ∃ b5, rv M1 a0 1 = some b5 ∧ kd M1 b5 = some (.inl 3) ∧ if 300 ≤ ((iv M1 b5 22) + a1) then P30 a0 a1 0 M1 else P30 a0 a1 1 M1)
set_option maxHeartbeats 4000000 in
theorem m_X1_years {l : Launch} (hl : l.stackTraces = false) {G : gG} {a0 : Nat} {a1 : Int32} {M : gM} {K : Int32 → gM → Prop} {KX : Addr → String → gM → Prop} (hf : f_X1_years a0 a1 M K KX) : gMet l G yX1_years (ws_ yX1_years cX1_years 4 (some Jvm.ClassFile.FieldType.int)) ({ frames := 32, cells := 1, slots := 6, locals := 714 }) M [.ref a0, .int a1] (kI K) KX := by
  refine gm_of hl (ret := (some Jvm.ClassFile.FieldType.int)) rfl (Nat.le_of_ble_eq_true rfl) (fun X h hq => ?_)
  have h : hX l G X cX1_years 4 "GlacierMail" 32 714 := h
  have hf := hf
  show V l G X 1 6 M 0 [(0, .ref a0), (1, .int a1)] []
  have hf := hf
    (fun v0 v1 s0 M => V l G X 1 6 M 30 [(0, .ref v0), (1, .int v1)] [.int s0])
    (fun v0 v1 v2 v3 M => V l G X 0 0 M 47 [(0, .ref v0), (1, .int v1), (2, .int v2), (3, .int v3)] [])
    (by
      intro v0 v1 s0 M hf
      show V l G X 1 6 M 30 [(0, .ref v0), (1, .int v1)] [.int s0]
      refine c1147 hl h dX1_years_30 hf (Nat.le_of_ble_eq_true rfl) (by decide) (by decide) (by decide) (by decide) (fun M9 hf => ?_) (fun q9 E9 M9 hf => r_out h hq hf)
      refine r_aload_n h 0 dX1_years_33 rfl rfl ?_
      obtain ⟨k10, hf⟩ := hf
      refine c1303 hl h dX1_years_34 k10 hf (Nat.le_of_ble_eq_true rfl) (by decide) (by decide) (fun M11 hf => ?_)
      refine r_aload_n h 0 dX1_years_37 rfl rfl ?_
      obtain ⟨k12, hf⟩ := hf
      obtain ⟨b13, e14, hf⟩ := hf
      refine g573 h dX1_years_38 k12 e14 ?_
      obtain ⟨k15, hf⟩ := hf
      refine g383 h dX1_years_41 k15 ?_
      refine r_istore_n (lv' := [(2, .int (iv M11 b13 23)), (0, .ref v0), (1, .int v1)]) h dX1_years_44 rfl (by decide) rfl ?_
      refine r_iconst (v := 0) h dX1_years_45 (by decide) ?_
      refine r_istore_n (lv' := [(3, .int 0), (2, .int (iv M11 b13 23)), (0, .ref v0), (1, .int v1)]) h dX1_years_46 rfl (by decide) rfl ?_
      exact V.sub [2, 3, 1, 0] rfl hf)
    (by
      intro v0 v1 v2 v3 M hf
      show V l G X 0 0 M 47 [(0, .ref v0), (1, .int v1), (2, .int v2), (3, .int v3)] []
      refine r_iload_n h 3 dX1_years_47 rfl rfl ?_
      refine r_iload_n h 1 dX1_years_48 rfl rfl ?_
      refine r_icmp_ge (tgt := 62) h dX1_years_49 (by decide) (fun c16 => ?_) (fun c16 => ?_)
      · have hf := ite_t c16 hf
        refine r_aload_n h 0 dX1_years_62 rfl rfl ?_
        obtain ⟨k17, hf⟩ := hf
        obtain ⟨b18, e19, hf⟩ := hf
        refine g573 h dX1_years_63 k17 e19 ?_
        obtain ⟨k20, hf⟩ := hf
        refine g383 h dX1_years_66 k20 ?_
        refine r_iload_n h 2 dX1_years_69 rfl rfl ?_
        refine r_isub h dX1_years_70 ?_
        exact r_ireturn h hq dX1_years_71 ⟨_, rfl, hf⟩
      · have hf := ite_f c16 hf
        refine r_aload_n h 0 dX1_years_52 rfl rfl ?_
        obtain ⟨k21, hf⟩ := hf
        refine c1350 hl h dX1_years_53 k21 hf (Nat.le_of_ble_eq_true rfl) (by decide) (by decide) (fun M22 hf => ?_)
        refine r_iinc (v := v3 + 1) (lv' := [(3, .int (v3 + 1)), (0, .ref v0), (1, .int v1), (2, .int v2)]) h 3 dX1_years_56 rfl rfl (by decide) rfl ?_
        refine r_goto (tgt := 47) h dX1_years_59 (by decide) ?_
        exact V.sub [1, 2, 3, 0] rfl hf)
  refine r_iload_n h 1 dX1_years_0 rfl rfl ?_
  refine r_iconst (v := 1) h dX1_years_1 (by decide) ?_
  refine r_bipush (v := 50) h dX1_years_2 (by decide) ?_
  refine c634 hl h dX1_years_4 hf (Nat.le_of_ble_eq_true rfl) (by decide) (by decide) (fun x2 M1 hf => ?_)
  refine r_if_eq (tgt := 29) h dX1_years_7 (by decide) (fun c3 => ?_) (fun c3 => ?_)
  · have hf := ite_t c3 hf
    refine r_iconst (v := 0) h dX1_years_29 (by decide) ?_
    exact V.sub [0, 1] rfl hf
  · have hf := ite_f c3 hf
    refine r_aload_n h 0 dX1_years_10 rfl rfl ?_
    obtain ⟨k4, hf⟩ := hf
    obtain ⟨b5, e6, hf⟩ := hf
    refine g573 h dX1_years_11 k4 e6 ?_
    obtain ⟨k7, hf⟩ := hf
    refine g381 h dX1_years_14 k7 ?_
    refine r_iload_n h 1 dX1_years_17 rfl rfl ?_
    refine r_iadd h dX1_years_18 ?_
    refine r_sipush (v := 300) h dX1_years_19 (by decide) ?_
    refine r_icmp_ge (tgt := 29) h dX1_years_22 (by decide) (fun c8 => ?_) (fun c8 => ?_)
    · have hf := ite_t c8 hf
      refine r_iconst (v := 0) h dX1_years_29 (by decide) ?_
      exact V.sub [0, 1] rfl hf
    · have hf := ite_f c8 hf
      refine r_iconst (v := 1) h dX1_years_25 (by decide) ?_
      refine r_goto (tgt := 30) h dX1_years_26 (by decide) ?_
      exact V.sub [0, 1] rfl hf
theorem c1346 {l : Launch} {G : gG} {X : gX} {cc : ByteArray} {nL F L bc bs pc : Nat} {M : gM} {lv : List (Nat × Value)} {rest : List Value} {a0 : Nat} {a1 : Int32} {K : Int32 → gM → Prop} {KX : Addr → String → gM → Prop} (hl : l.stackTraces = false) (h : hX l G X cc nL "GlacierMailLaw" F L) (d : decode cc pc = .ok (.invokevirtual 59, 3)) (hk : kd M a0 = some (.inl 1)) (hf : f_X1_years a0 a1 M K KX) (hst : (rest.map fun v => v.category).sum ≤ 8) (hF : 33 ≤ F) (hL : 737 ≤ L) (h1 : 1 ≤ bc) (h2 : 6 ≤ bs) (kk : ∀ x M1, K x M1 → V l G X (bc - 1) (bs - 6) M1 (pc + 3) lv (.int x :: rest)) (kx : ∀ q E M1, KX q E M1 → VX l G X (bc - 1) (bs - 6) M1 pc lv q E) : V l G X bc bs M pc lv (.int a1 :: .ref a0 :: rest) := r_callV (n := 1) (As := [.int a1]) h (m_X1_years hl hf) 1 rfl hk rfl ⟨by decide, by decide, by decide +kernel⟩ d q1346 q1347 q1348 q135 q1349 rfl rfl hst hF hL h1 h2 (kI_go kk) kx
def f_X0_years (a0 : Nat) (a1 : Int32) (a2 : Nat) (M : gM) (K : Int32 → gM → Prop) : Prop :=
  kd M a0 = some (.inl 1) ∧ f_X1_years a0 a1 M (fun x3 M2 => inA M2 a2 2 0 ∧ ∀ M5, M5 = sJ M2 a2 (ix 0) (x3.toInt64) → K 0 M5) (fun q9 E9 M9 => (E9 = "java/lang/IllegalArgumentException" ∧ K 1 M9))
set_option maxHeartbeats 4000000 in
theorem m_X0_years {l : Launch} (hl : l.stackTraces = false) {G : gG} {a0 : Nat} {a1 : Int32} {a2 : Nat} {M : gM} {K : Int32 → gM → Prop} (hf : f_X0_years a0 a1 a2 M K) : gMet l G yX0_years (wsW_ yX0_years cX0_years 4 (some Jvm.ClassFile.FieldType.int) [(0, 9, 12, 13)]) ({ frames := 33, cells := 1, slots := 6, locals := 737 }) M [.ref a0, .int a1, .ref a2] (kI K) kN := by
  refine gm_ofH hl (ret := (some Jvm.ClassFile.FieldType.int)) rfl (Nat.le_of_ble_eq_true rfl) (fun X h hq => ?_)
  have h : hX l G X cX0_years 4 "GlacierMailLaw" 33 737 := h
  have hf := hf
  show V l G X 1 6 M 0 [(0, .ref a0), (1, .int a1), (2, .ref a2)] []
  unfold f_X0_years at hf
  refine r_aload_n h 2 dX0_years_0 rfl rfl ?_
  refine r_iconst (v := 0) h dX0_years_1 (by decide) ?_
  refine r_aload_n h 0 dX0_years_2 rfl rfl ?_
  refine r_iload_n h 1 dX0_years_3 rfl rfl ?_
  obtain ⟨k1, hf⟩ := hf
  refine c1346 hl h dX0_years_4 k1 hf (Nat.le_of_ble_eq_true rfl) (by decide) (by decide) (by decide) (by decide) (fun x3 M2 hf => ?_) (fun q9 E9 M9 hf => ?_)
  · skip
    refine r_i2l h dX0_years_7 ?_
    obtain ⟨j4, hf⟩ := hf
    refine r_lastore h dX0_years_8 j4 ?_
    refine r_goW (fun M5 eM5 => ?_)
    have hf := hf M5 eM5
    refine r_goto (tgt := 15) h dX0_years_9 (by decide) ?_
    refine r_iconst (v := 0) h dX0_years_15 (by decide) ?_
    exact r_ireturn h hq dX0_years_16 ⟨_, rfl, hf⟩
  · rcases hf with ⟨rfl, hf⟩
    · refine r_catch h hq 0 (E := "java/lang/IllegalArgumentException") (nm := "java/lang/IllegalArgumentException") rfl (fun z hz => nomatch hz) (by decide) (by decide) q822 (List.mem_of_getElem? (i := 5) rfl) ?_
      refine r_astore_n (lv' := [(3, .ref q9), (0, .ref a0), (1, .int a1), (2, .ref a2)]) h dX0_years_12 rfl (by decide) rfl ?_
      refine r_iconst (v := 1) h dX0_years_13 (by decide) ?_
      exact r_ireturn h hq dX0_years_14 ⟨_, rfl, hf⟩
theorem c1343 {l : Launch} {G : gG} {X : gX} {cc : ByteArray} {nL F L bc bs pc : Nat} {M : gM} {lv : List (Nat × Value)} {rest : List Value} {a0 : Nat} {a1 : Int32} {a2 : Nat} {K : Int32 → gM → Prop} (hl : l.stackTraces = false) (h : hX l G X cc nL "GlacierMailLaw" F L) (d : decode cc pc = .ok (.invokestatic 198, 3)) (hf : f_X0_years a0 a1 a2 M K) (hst : (rest.map fun v => v.category).sum ≤ 8) (hF : 34 ≤ F) (hL : 760 ≤ L) (h1 : 1 ≤ bc) (h2 : 6 ≤ bs) (kk : ∀ x M1, K x M1 → V l G X (bc - 1) (bs - 6) M1 (pc + 3) lv (.int x :: rest)) : V l G X bc bs M pc lv (.ref a2 :: .int a1 :: .ref a0 :: rest) := r_callSH (n := 3) (As := [.ref a0, .int a1, .ref a2]) h (m_X0_years hl hf) ⟨by decide, by decide, by decide +kernel⟩ d q1343 q1344 q134 q1345 rfl rfl hst hF hL h1 h2 (kI_go kk) kN_go
def f_X1_thereIs (a0 : Int32) (M : gM) (K : gM → Prop) (KX : Addr → String → gM → Prop) : Prop :=
  if a0 = 0 then ∀ n2, sz M ≤ n2 → KX (sz M) "java/util/NoSuchElementException" (sZ M n2) else K M
set_option maxHeartbeats 4000000 in
theorem m_X1_thereIs {l : Launch} (hl : l.stackTraces = false) {G : gG} {a0 : Int32} {M : gM} {K : gM → Prop} {KX : Addr → String → gM → Prop} (hf : f_X1_thereIs a0 M K KX) : gMet l G yX1_thereIs (ws_ yX1_thereIs cX1_thereIs 1 none) ({ frames := 12, cells := 1, slots := 6, locals := 200 }) M [.int a0] (kV K) KX := by
  refine gm_of hl (ret := none) rfl (Nat.le_of_ble_eq_true rfl) (fun X h hq => ?_)
  have h : hX l G X cX1_thereIs 1 "GlacierMail" 12 200 := h
  have hf := hf
  show V l G X 1 6 M 0 [(0, .int a0)] []
  unfold f_X1_thereIs at hf
  refine r_iload_n h 0 dX1_thereIs_0 rfl rfl ?_
  refine r_if_ne (tgt := 12) h dX1_thereIs_1 (by decide) (fun c1 => ?_) (fun c1 => ?_)
  · have hf := ite_f c1 hf
    exact r_return h hq dX1_thereIs_12 ⟨rfl, hf⟩
  · have hf := ite_t c1 hf
    exact x1239 h hq dX1_thereIs_4 dX1_thereIs_7 dX1_thereIs_8 dX1_thereIs_11 (by decide) (by decide) (by decide) (by decide) (Nat.le_of_ble_eq_true rfl) (fun n2 hn => hf n2 hn)
theorem c1377 {l : Launch} {G : gG} {X : gX} {cc : ByteArray} {nL F L bc bs pc : Nat} {M : gM} {lv : List (Nat × Value)} {rest : List Value} {a0 : Int32} {K : gM → Prop} {KX : Addr → String → gM → Prop} (hl : l.stackTraces = false) (h : hX l G X cc nL "GlacierMail" F L) (d : decode cc pc = .ok (.invokestatic 307, 3)) (hf : f_X1_thereIs a0 M K KX) (hst : (rest.map fun v => v.category).sum ≤ 8) (hF : 13 ≤ F) (hL : 220 ≤ L) (h1 : 1 ≤ bc) (h2 : 6 ≤ bs) (kk : ∀ M1, K M1 → V l G X (bc - 1) (bs - 6) M1 (pc + 3) lv rest) (kx : ∀ q E M1, KX q E M1 → VX l G X (bc - 1) (bs - 6) M1 pc lv q E) : V l G X bc bs M pc lv (.int a0 :: rest) := r_callS (n := 1) (As := [.int a0]) h (m_X1_thereIs hl hf) ⟨by decide, by decide, by decide +kernel⟩ d q1377 q1378 q135 q1379 rfl rfl hst hF hL h1 h2 (kV_go kk) kx
def f_X1_throwsFor (a0 : Nat) (a1 : Int32) (a2 : Int32) (a3 : Int32) (a4 : Int32) (M : gM) (K : Int32 → gM → Prop) (KX : Addr → String → gM → Prop) : Prop :=
  ∀ P29 : Nat → Int32 → Int32 → Int32 → Int32 → Int32 → gM → Prop,
  ∀ P54 : Nat → Int32 → Int32 → Int32 → Int32 → Int32 → Int32 → Int32 → Int32 → gM → Prop,
  (∀ (v0 : Nat) (v1 : Int32) (v2 : Int32) (v3 : Int32) (v4 : Int32) (s0 : Int32) (M : gM), (f_X1_must s0 M (fun M10 => f_X1_isIn v4 0 2 M10 (fun x12 M11 => f_X1_thereIs x12 M11 (fun M13 => P54 v0 v1 v2 v3 v4 0 (-1) (-1) 0 M13) KX)) KX) → P29 v0 v1 v2 v3 v4 s0 M) →
  (∀ (v0 : Nat) (v1 : Int32) (v2 : Int32) (v3 : Int32) (v4 : Int32) (v5 : Int32) (v6 : Int32) (v7 : Int32) (v8 : Int32) (M : gM), (kd M v0 = some (.inl 1) ∧ ∃ b15, rv M v0 1 = some b15 ∧ kd M b15 = some (.inl 3) ∧ if (iv M b15 10) ≤ v8 then if v4 = 0 then K v5 M else if v4 = 1 then K v6 M else K v7 M else ∃ b21, rv M v0 4 = some b21 ∧ kd M b21 = some (.inl 9) ∧ f_X9_goes b21 v1 v8 v2 0 M (fun b25 M24 => kd M24 b25 = some (.inl 9) ∧ if (iv M24 b25 3) = v3 then if v6 = (-1) then P54 v0 v1 v2 v3 v4 (v5 + 1) v8 v8 (v8 + 1) M24 else P54 v0 v1 v2 v3 v4 (v5 + 1) v6 v8 (v8 + 1) M24 else P54 v0 v1 v2 v3 v4 v5 v6 v7 (v8 + 1) M24)) → P54 v0 v1 v2 v3 v4 v5 v6 v7 v8 M) →
  kd M a0 = some (.inl 1) ∧ f_X1_isLane a0 a1 M (fun M2 => f_X1_isYear a2 M2 (fun M3 => f_X1_isYear a3 M3 (fun M4 => kd M4 a0 = some (.inl 1) ∧ ∃ b6, rv M4 a0 1 = some b6 ∧ kd M4 b6 = some (.inl 3) ∧ if a2 < (iv M4 b6 22) then P29 a0 a1 a2 a3 a4 0 M4 else P29 a0 a1 a2 a3 a4 1 M4) KX) KX) KX
set_option maxHeartbeats 4000000 in
theorem m_X1_throwsFor {l : Launch} (hl : l.stackTraces = false) {G : gG} {a0 : Nat} {a1 : Int32} {a2 : Int32} {a3 : Int32} {a4 : Int32} {M : gM} {K : Int32 → gM → Prop} {KX : Addr → String → gM → Prop} (hf : f_X1_throwsFor a0 a1 a2 a3 a4 M K KX) : gMet l G yX1_throwsFor (ws_ yX1_throwsFor cX1_throwsFor 9 (some Jvm.ClassFile.FieldType.int)) ({ frames := 28, cells := 5, slots := 30, locals := 626 }) M [.ref a0, .int a1, .int a2, .int a3, .int a4] (kI K) KX := by
  refine gm_of hl (ret := (some Jvm.ClassFile.FieldType.int)) rfl (Nat.le_of_ble_eq_true rfl) (fun X h hq => ?_)
  have h : hX l G X cX1_throwsFor 9 "GlacierMail" 28 626 := h
  have hf := hf
  show V l G X 5 30 M 0 [(0, .ref a0), (1, .int a1), (2, .int a2), (3, .int a3), (4, .int a4)] []
  have hf := hf
    (fun v0 v1 v2 v3 v4 s0 M => V l G X 2 12 M 29 [(0, .ref v0), (1, .int v1), (2, .int v2), (3, .int v3), (4, .int v4)] [.int s0])
    (fun v0 v1 v2 v3 v4 v5 v6 v7 v8 M => V l G X 0 0 M 54 [(0, .ref v0), (1, .int v1), (2, .int v2), (3, .int v3), (4, .int v4), (5, .int v5), (6, .int v6), (7, .int v7), (8, .int v8)] [])
    (by
      intro v0 v1 v2 v3 v4 s0 M hf
      show V l G X 2 12 M 29 [(0, .ref v0), (1, .int v1), (2, .int v2), (3, .int v3), (4, .int v4)] [.int s0]
      refine c1147 hl h dX1_throwsFor_29 hf (Nat.le_of_ble_eq_true rfl) (by decide) (by decide) (by decide) (by decide) (fun M10 hf => ?_) (fun q9 E9 M9 hf => r_out h hq hf)
      refine r_iload h 4 dX1_throwsFor_32 rfl ?_
      refine r_iconst (v := 0) h dX1_throwsFor_34 (by decide) ?_
      refine r_iconst (v := 2) h dX1_throwsFor_35 (by decide) ?_
      refine c634 hl h dX1_throwsFor_36 hf (Nat.le_of_ble_eq_true rfl) (by decide) (by decide) (fun x12 M11 hf => ?_)
      refine c1377 hl h dX1_throwsFor_39 hf (Nat.le_of_ble_eq_true rfl) (by decide) (by decide) (by decide) (by decide) (fun M13 hf => ?_) (fun q9 E9 M9 hf => r_out h hq hf)
      refine r_iconst (v := 0) h dX1_throwsFor_42 (by decide) ?_
      refine r_istore (lv' := [(5, .int 0), (0, .ref v0), (1, .int v1), (2, .int v2), (3, .int v3), (4, .int v4)]) h dX1_throwsFor_43 (by decide) rfl ?_
      refine r_iconst (v := (-1)) h dX1_throwsFor_45 (by decide) ?_
      refine r_istore (lv' := [(6, .int (-1)), (5, .int 0), (0, .ref v0), (1, .int v1), (2, .int v2), (3, .int v3), (4, .int v4)]) h dX1_throwsFor_46 (by decide) rfl ?_
      refine r_iconst (v := (-1)) h dX1_throwsFor_48 (by decide) ?_
      refine r_istore (lv' := [(7, .int (-1)), (6, .int (-1)), (5, .int 0), (0, .ref v0), (1, .int v1), (2, .int v2), (3, .int v3), (4, .int v4)]) h dX1_throwsFor_49 (by decide) rfl ?_
      refine r_iconst (v := 0) h dX1_throwsFor_51 (by decide) ?_
      refine r_istore (lv' := [(8, .int 0), (7, .int (-1)), (6, .int (-1)), (5, .int 0), (0, .ref v0), (1, .int v1), (2, .int v2), (3, .int v3), (4, .int v4)]) h dX1_throwsFor_52 (by decide) rfl ?_
      exact V.sub [4, 5, 6, 7, 8, 3, 2, 1, 0] rfl hf)
    (by
      intro v0 v1 v2 v3 v4 v5 v6 v7 v8 M hf
      show V l G X 0 0 M 54 [(0, .ref v0), (1, .int v1), (2, .int v2), (3, .int v3), (4, .int v4), (5, .int v5), (6, .int v6), (7, .int v7), (8, .int v8)] []
      refine r_iload h 8 dX1_throwsFor_54 rfl ?_
      refine r_aload_n h 0 dX1_throwsFor_56 rfl rfl ?_
      obtain ⟨k14, hf⟩ := hf
      obtain ⟨b15, e16, hf⟩ := hf
      refine g573 h dX1_throwsFor_57 k14 e16 ?_
      obtain ⟨k17, hf⟩ := hf
      refine g346 h dX1_throwsFor_60 k17 ?_
      refine r_icmp_ge (tgt := 116) h dX1_throwsFor_63 (by decide) (fun c18 => ?_) (fun c18 => ?_)
      · have hf := ite_t c18 hf
        refine r_iload h 4 dX1_throwsFor_116 rfl ?_
        refine r_if_ne (tgt := 126) h dX1_throwsFor_118 (by decide) (fun c19 => ?_) (fun c19 => ?_)
        · have hf := ite_f c19 hf
          refine r_iload h 4 dX1_throwsFor_126 rfl ?_
          refine r_iconst (v := 1) h dX1_throwsFor_128 (by decide) ?_
          refine r_icmp_ne (tgt := 137) h dX1_throwsFor_129 (by decide) (fun c20 => ?_) (fun c20 => ?_)
          · have hf := ite_f c20 hf
            refine r_iload h 7 dX1_throwsFor_137 rfl ?_
            exact r_ireturn h hq dX1_throwsFor_139 ⟨_, rfl, hf⟩
          · have hf := ite_t c20 hf
            refine r_iload h 6 dX1_throwsFor_132 rfl ?_
            refine r_goto (tgt := 139) h dX1_throwsFor_134 (by decide) ?_
            exact r_ireturn h hq dX1_throwsFor_139 ⟨_, rfl, hf⟩
        · have hf := ite_t c19 hf
          refine r_iload h 5 dX1_throwsFor_121 rfl ?_
          refine r_goto (tgt := 139) h dX1_throwsFor_123 (by decide) ?_
          exact r_ireturn h hq dX1_throwsFor_139 ⟨_, rfl, hf⟩
      · have hf := ite_f c18 hf
        refine r_aload_n h 0 dX1_throwsFor_66 rfl rfl ?_
        obtain ⟨b21, e22, hf⟩ := hf
        refine g577 h dX1_throwsFor_67 k14 e22 ?_
        refine r_iload_n h 1 dX1_throwsFor_70 rfl rfl ?_
        refine r_iload h 8 dX1_throwsFor_71 rfl ?_
        refine r_iload_n h 2 dX1_throwsFor_73 rfl rfl ?_
        refine r_iconst (v := 0) h dX1_throwsFor_74 (by decide) ?_
        obtain ⟨k23, hf⟩ := hf
        refine c1380 hl h dX1_throwsFor_75 k23 hf (Nat.le_of_ble_eq_true rfl) (by decide) (by decide) (fun b25 M24 hf => ?_)
        obtain ⟨k26, hf⟩ := hf
        refine g559 h dX1_throwsFor_78 k26 ?_
        refine r_iload_n h 3 dX1_throwsFor_81 rfl rfl ?_
        refine r_icmp_eq (tgt := 88) h dX1_throwsFor_82 (by decide) (fun c27 => ?_) (fun c27 => ?_)
        · have hf := ite_t c27 hf
          refine r_iinc (v := v5 + 1) (lv' := [(5, .int (v5 + 1)), (0, .ref v0), (1, .int v1), (2, .int v2), (3, .int v3), (4, .int v4), (6, .int v6), (7, .int v7), (8, .int v8)]) h 5 dX1_throwsFor_88 rfl rfl (by decide) rfl ?_
          refine r_iload h 6 dX1_throwsFor_91 rfl ?_
          refine r_iconst (v := (-1)) h dX1_throwsFor_93 (by decide) ?_
          refine r_icmp_ne (tgt := 102) h dX1_throwsFor_94 (by decide) (fun c28 => ?_) (fun c28 => ?_)
          · have hf := ite_f c28 hf
            refine r_iload h 6 dX1_throwsFor_102 rfl ?_
            refine r_istore (lv' := [(6, .int v6), (5, .int (v5 + 1)), (0, .ref v0), (1, .int v1), (2, .int v2), (3, .int v3), (4, .int v4), (7, .int v7), (8, .int v8)]) h dX1_throwsFor_104 (by decide) rfl ?_
            refine r_iload h 8 dX1_throwsFor_106 rfl ?_
            refine r_istore (lv' := [(7, .int v8), (6, .int v6), (5, .int (v5 + 1)), (0, .ref v0), (1, .int v1), (2, .int v2), (3, .int v3), (4, .int v4), (8, .int v8)]) h dX1_throwsFor_108 (by decide) rfl ?_
            refine r_iinc (v := v8 + 1) (lv' := [(8, .int (v8 + 1)), (7, .int v8), (6, .int v6), (5, .int (v5 + 1)), (0, .ref v0), (1, .int v1), (2, .int v2), (3, .int v3), (4, .int v4)]) h 8 dX1_throwsFor_110 rfl rfl (by decide) rfl ?_
            refine r_goto (tgt := 54) h dX1_throwsFor_113 (by decide) ?_
            exact V.sub [4, 5, 6, 7, 8, 3, 2, 1, 0] rfl hf
          · have hf := ite_t c28 hf
            refine r_iload h 8 dX1_throwsFor_97 rfl ?_
            refine r_goto (tgt := 104) h dX1_throwsFor_99 (by decide) ?_
            refine r_istore (lv' := [(6, .int v8), (5, .int (v5 + 1)), (0, .ref v0), (1, .int v1), (2, .int v2), (3, .int v3), (4, .int v4), (7, .int v7), (8, .int v8)]) h dX1_throwsFor_104 (by decide) rfl ?_
            refine r_iload h 8 dX1_throwsFor_106 rfl ?_
            refine r_istore (lv' := [(7, .int v8), (6, .int v8), (5, .int (v5 + 1)), (0, .ref v0), (1, .int v1), (2, .int v2), (3, .int v3), (4, .int v4), (8, .int v8)]) h dX1_throwsFor_108 (by decide) rfl ?_
            refine r_iinc (v := v8 + 1) (lv' := [(8, .int (v8 + 1)), (7, .int v8), (6, .int v8), (5, .int (v5 + 1)), (0, .ref v0), (1, .int v1), (2, .int v2), (3, .int v3), (4, .int v4)]) h 8 dX1_throwsFor_110 rfl rfl (by decide) rfl ?_
            refine r_goto (tgt := 54) h dX1_throwsFor_113 (by decide) ?_
            exact V.sub [4, 5, 6, 7, 8, 3, 2, 1, 0] rfl hf
        · have hf := ite_f c27 hf
          refine r_goto (tgt := 110) h dX1_throwsFor_85 (by decide) ?_
          refine r_iinc (v := v8 + 1) (lv' := [(8, .int (v8 + 1)), (0, .ref v0), (1, .int v1), (2, .int v2), (3, .int v3), (4, .int v4), (5, .int v5), (6, .int v6), (7, .int v7)]) h 8 dX1_throwsFor_110 rfl rfl (by decide) rfl ?_
          refine r_goto (tgt := 54) h dX1_throwsFor_113 (by decide) ?_
          exact V.sub [1, 2, 3, 4, 5, 6, 7, 8, 0] rfl hf)
  refine r_aload_n h 0 dX1_throwsFor_0 rfl rfl ?_
  refine r_iload_n h 1 dX1_throwsFor_1 rfl rfl ?_
  obtain ⟨k1, hf⟩ := hf
  refine c1189 hl h dX1_throwsFor_2 k1 hf (Nat.le_of_ble_eq_true rfl) (by decide) (by decide) (by decide) (by decide) (fun M2 hf => ?_) (fun q9 E9 M9 hf => r_out h hq hf)
  refine r_iload_n h 2 dX1_throwsFor_5 rfl rfl ?_
  refine c1144 hl h dX1_throwsFor_6 hf (Nat.le_of_ble_eq_true rfl) (by decide) (by decide) (by decide) (by decide) (fun M3 hf => ?_) (fun q9 E9 M9 hf => r_out h hq hf)
  refine r_iload_n h 3 dX1_throwsFor_9 rfl rfl ?_
  refine c1144 hl h dX1_throwsFor_10 hf (Nat.le_of_ble_eq_true rfl) (by decide) (by decide) (by decide) (by decide) (fun M4 hf => ?_) (fun q9 E9 M9 hf => r_out h hq hf)
  refine r_iload_n h 2 dX1_throwsFor_13 rfl rfl ?_
  refine r_aload_n h 0 dX1_throwsFor_14 rfl rfl ?_
  obtain ⟨k5, hf⟩ := hf
  obtain ⟨b6, e7, hf⟩ := hf
  refine g573 h dX1_throwsFor_15 k5 e7 ?_
  obtain ⟨k8, hf⟩ := hf
  refine g381 h dX1_throwsFor_18 k8 ?_
  refine r_icmp_lt (tgt := 28) h dX1_throwsFor_21 (by decide) (fun c9 => ?_) (fun c9 => ?_)
  · have hf := ite_t c9 hf
    refine r_iconst (v := 0) h dX1_throwsFor_28 (by decide) ?_
    exact V.sub [0, 1, 2, 3, 4] rfl hf
  · have hf := ite_f c9 hf
    refine r_iconst (v := 1) h dX1_throwsFor_24 (by decide) ?_
    refine r_goto (tgt := 29) h dX1_throwsFor_25 (by decide) ?_
    exact V.sub [0, 1, 2, 3, 4] rfl hf
theorem c1373 {l : Launch} {G : gG} {X : gX} {cc : ByteArray} {nL F L bc bs pc : Nat} {M : gM} {lv : List (Nat × Value)} {rest : List Value} {a0 : Nat} {a1 : Int32} {a2 : Int32} {a3 : Int32} {a4 : Int32} {K : Int32 → gM → Prop} {KX : Addr → String → gM → Prop} (hl : l.stackTraces = false) (h : hX l G X cc nL "GlacierMailLaw" F L) (d : decode cc pc = .ok (.invokevirtual 62, 3)) (hk : kd M a0 = some (.inl 1)) (hf : f_X1_throwsFor a0 a1 a2 a3 a4 M K KX) (hst : (rest.map fun v => v.category).sum ≤ 8) (hF : 29 ≤ F) (hL : 654 ≤ L) (h1 : 5 ≤ bc) (h2 : 30 ≤ bs) (kk : ∀ x M1, K x M1 → V l G X (bc - 5) (bs - 30) M1 (pc + 3) lv (.int x :: rest)) (kx : ∀ q E M1, KX q E M1 → VX l G X (bc - 5) (bs - 30) M1 pc lv q E) : V l G X bc bs M pc lv (.int a4 :: .int a3 :: .int a2 :: .int a1 :: .ref a0 :: rest) := r_callV (n := 4) (As := [.int a1, .int a2, .int a3, .int a4]) h (m_X1_throwsFor hl hf) 1 rfl hk rfl ⟨by decide, by decide, by decide +kernel⟩ d q1373 q1374 q1375 q135 q1376 rfl rfl hst hF hL h1 h2 (kI_go kk) kx
def f_X0_throwsFor (a0 : Nat) (a1 : Int32) (a2 : Int32) (a3 : Int32) (a4 : Int32) (a5 : Nat) (M : gM) (K : Int32 → gM → Prop) : Prop :=
  kd M a0 = some (.inl 1) ∧ f_X1_throwsFor a0 a1 a2 a3 a4 M (fun x3 M2 => inA M2 a5 2 0 ∧ ∀ M5, M5 = sJ M2 a5 (ix 0) (x3.toInt64) → K 0 M5) (fun q9 E9 M9 => (E9 = "java/lang/IndexOutOfBoundsException" ∧ K 1 M9) ∨ (E9 = "java/lang/IllegalArgumentException" ∧ K 2 M9) ∨ (E9 = "java/util/NoSuchElementException" ∧ K 3 M9))
set_option maxHeartbeats 4000000 in
theorem m_X0_throwsFor {l : Launch} (hl : l.stackTraces = false) {G : gG} {a0 : Nat} {a1 : Int32} {a2 : Int32} {a3 : Int32} {a4 : Int32} {a5 : Nat} {M : gM} {K : Int32 → gM → Prop} (hf : f_X0_throwsFor a0 a1 a2 a3 a4 a5 M K) : gMet l G yX0_throwsFor (wsW_ yX0_throwsFor cX0_throwsFor 7 (some Jvm.ClassFile.FieldType.int) [(0, 14, 17, 28), (0, 14, 21, 13), (0, 14, 25, 37)]) ({ frames := 29, cells := 5, slots := 30, locals := 654 }) M [.ref a0, .int a1, .int a2, .int a3, .int a4, .ref a5] (kI K) kN := by
  refine gm_ofH hl (ret := (some Jvm.ClassFile.FieldType.int)) rfl (Nat.le_of_ble_eq_true rfl) (fun X h hq => ?_)
  have h : hX l G X cX0_throwsFor 7 "GlacierMailLaw" 29 654 := h
  have hf := hf
  show V l G X 5 30 M 0 [(0, .ref a0), (1, .int a1), (2, .int a2), (3, .int a3), (4, .int a4), (5, .ref a5)] []
  unfold f_X0_throwsFor at hf
  refine r_aload h 5 dX0_throwsFor_0 rfl ?_
  refine r_iconst (v := 0) h dX0_throwsFor_2 (by decide) ?_
  refine r_aload_n h 0 dX0_throwsFor_3 rfl rfl ?_
  refine r_iload_n h 1 dX0_throwsFor_4 rfl rfl ?_
  refine r_iload_n h 2 dX0_throwsFor_5 rfl rfl ?_
  refine r_iload_n h 3 dX0_throwsFor_6 rfl rfl ?_
  refine r_iload h 4 dX0_throwsFor_7 rfl ?_
  obtain ⟨k1, hf⟩ := hf
  refine c1373 hl h dX0_throwsFor_9 k1 hf (Nat.le_of_ble_eq_true rfl) (by decide) (by decide) (by decide) (by decide) (fun x3 M2 hf => ?_) (fun q9 E9 M9 hf => ?_)
  · skip
    refine r_i2l h dX0_throwsFor_12 ?_
    obtain ⟨j4, hf⟩ := hf
    refine r_lastore h dX0_throwsFor_13 j4 ?_
    refine r_goW (fun M5 eM5 => ?_)
    have hf := hf M5 eM5
    refine r_goto (tgt := 29) h dX0_throwsFor_14 (by decide) ?_
    refine r_iconst (v := 0) h dX0_throwsFor_29 (by decide) ?_
    exact r_ireturn h hq dX0_throwsFor_30 ⟨_, rfl, hf⟩
  · rcases hf with ⟨rfl, hf⟩ | ⟨rfl, hf⟩ | ⟨rfl, hf⟩
    · refine r_catch h hq 0 (E := "java/lang/IndexOutOfBoundsException") (nm := "java/lang/IndexOutOfBoundsException") rfl (fun z hz => nomatch hz) (by decide) (by decide) q1153 (List.mem_of_getElem? (i := 8) rfl) ?_
      refine r_astore (lv' := [(6, .ref q9), (0, .ref a0), (1, .int a1), (2, .int a2), (3, .int a3), (4, .int a4), (5, .ref a5)]) h dX0_throwsFor_17 (by decide) rfl ?_
      refine r_iconst (v := 1) h dX0_throwsFor_19 (by decide) ?_
      exact r_ireturn h hq dX0_throwsFor_20 ⟨_, rfl, hf⟩
    · refine r_catch h hq 1 (E := "java/lang/IllegalArgumentException") (nm := "java/lang/IllegalArgumentException") rfl (List.forall_mem_cons.mpr ⟨Or.inr ⟨by decide, "java/lang/IndexOutOfBoundsException", q1153, List.mem_of_getElem? (i := 16) rfl⟩, List.forall_mem_nil _⟩) (by decide) (by decide) q822 (List.mem_of_getElem? (i := 5) rfl) ?_
      refine r_astore (lv' := [(6, .ref q9), (0, .ref a0), (1, .int a1), (2, .int a2), (3, .int a3), (4, .int a4), (5, .ref a5)]) h dX0_throwsFor_21 (by decide) rfl ?_
      refine r_iconst (v := 2) h dX0_throwsFor_23 (by decide) ?_
      exact r_ireturn h hq dX0_throwsFor_24 ⟨_, rfl, hf⟩
    · refine r_catch h hq 2 (E := "java/util/NoSuchElementException") (nm := "java/util/NoSuchElementException") rfl (List.forall_mem_cons.mpr ⟨Or.inr ⟨by decide, "java/lang/IndexOutOfBoundsException", q1153, List.mem_of_getElem? (i := 18) rfl⟩, List.forall_mem_cons.mpr ⟨Or.inr ⟨by decide, "java/lang/IllegalArgumentException", q822, List.mem_of_getElem? (i := 3) rfl⟩, List.forall_mem_nil _⟩⟩) (by decide) (by decide) q1226 (List.mem_of_getElem? (i := 9) rfl) ?_
      refine r_astore (lv' := [(6, .ref q9), (0, .ref a0), (1, .int a1), (2, .int a2), (3, .int a3), (4, .int a4), (5, .ref a5)]) h dX0_throwsFor_25 (by decide) rfl ?_
      refine r_iconst (v := 3) h dX0_throwsFor_27 (by decide) ?_
      exact r_ireturn h hq dX0_throwsFor_28 ⟨_, rfl, hf⟩
theorem c1370 {l : Launch} {G : gG} {X : gX} {cc : ByteArray} {nL F L bc bs pc : Nat} {M : gM} {lv : List (Nat × Value)} {rest : List Value} {a0 : Nat} {a1 : Int32} {a2 : Int32} {a3 : Int32} {a4 : Int32} {a5 : Nat} {K : Int32 → gM → Prop} (hl : l.stackTraces = false) (h : hX l G X cc nL "GlacierMailLaw" F L) (d : decode cc pc = .ok (.invokestatic 201, 3)) (hf : f_X0_throwsFor a0 a1 a2 a3 a4 a5 M K) (hst : (rest.map fun v => v.category).sum ≤ 8) (hF : 30 ≤ F) (hL : 680 ≤ L) (h1 : 5 ≤ bc) (h2 : 30 ≤ bs) (kk : ∀ x M1, K x M1 → V l G X (bc - 5) (bs - 30) M1 (pc + 3) lv (.int x :: rest)) : V l G X bc bs M pc lv (.ref a5 :: .int a4 :: .int a3 :: .int a2 :: .int a1 :: .ref a0 :: rest) := r_callSH (n := 6) (As := [.ref a0, .int a1, .int a2, .int a3, .int a4, .ref a5]) h (m_X0_throwsFor hl hf) ⟨by decide, by decide, by decide +kernel⟩ d q1370 q1371 q134 q1372 rfl rfl hst hF hL h1 h2 (kI_go kk) kN_go
def f_X1_latest (a0 : Nat) (a1 : Int32) (a2 : Int32) (M : gM) (K : Int32 → gM → Prop) (KX : Addr → String → gM → Prop) : Prop :=
  ∀ P15 : Nat → Int32 → Nat → Int32 → gM → Prop,
  (∀ (v0 : Nat) (v2 : Int32) (v3 : Nat) (v4 : Int32) (M : gM), (kd M v0 = some (.inl 1) ∧ ∃ b6, rv M v0 1 = some b6 ∧ kd M b6 = some (.inl 3) ∧ if v4 < (iv M b6 22) then K (-1) M else ∃ b10, rv M v0 4 = some b10 ∧ kd M v3 = some (.inl 6) ∧ kd M b10 = some (.inl 9) ∧ f_X9_goes b10 (iv M v3 0) (iv M v3 1) v4 0 M (fun b15 M14 => kd M14 b15 = some (.inl 9) ∧ if v2 < (iv M14 b15 3) then P15 v0 v2 v3 (v4 + (-1)) M14 else K v4 M14)) → P15 v0 v2 v3 v4 M) →
  kd M a0 = some (.inl 1) ∧ f_X1_personAt a0 a1 M (fun b3 M2 => f_X1_isYear a2 M2 (fun M4 => P15 a0 a2 b3 (a2 - 1) M4) KX) KX
set_option maxHeartbeats 4000000 in
theorem m_X1_latest {l : Launch} (hl : l.stackTraces = false) {G : gG} {a0 : Nat} {a1 : Int32} {a2 : Int32} {M : gM} {K : Int32 → gM → Prop} {KX : Addr → String → gM → Prop} (hf : f_X1_latest a0 a1 a2 M K KX) : gMet l G yX1_latest (ws_ yX1_latest cX1_latest 5 (some Jvm.ClassFile.FieldType.int)) ({ frames := 28, cells := 2, slots := 12, locals := 626 }) M [.ref a0, .int a1, .int a2] (kI K) KX := by
  refine gm_of hl (ret := (some Jvm.ClassFile.FieldType.int)) rfl (Nat.le_of_ble_eq_true rfl) (fun X h hq => ?_)
  have h : hX l G X cX1_latest 5 "GlacierMail" 28 626 := h
  have hf := hf
  show V l G X 2 12 M 0 [(0, .ref a0), (1, .int a1), (2, .int a2)] []
  have hf := hf
    (fun v0 v2 v3 v4 M => V l G X 0 0 M 15 [(0, .ref v0), (2, .int v2), (3, .ref v3), (4, .int v4)] [])
    (by
      intro v0 v2 v3 v4 M hf
      show V l G X 0 0 M 15 [(0, .ref v0), (2, .int v2), (3, .ref v3), (4, .int v4)] []
      refine r_iload h 3 dX1_latest_15 rfl ?_
      refine r_aload_n h 0 dX1_latest_17 rfl rfl ?_
      obtain ⟨k5, hf⟩ := hf
      obtain ⟨b6, e7, hf⟩ := hf
      refine g573 h dX1_latest_18 k5 e7 ?_
      obtain ⟨k8, hf⟩ := hf
      refine g381 h dX1_latest_21 k8 ?_
      refine r_icmp_lt (tgt := 61) h dX1_latest_24 (by decide) (fun c9 => ?_) (fun c9 => ?_)
      · have hf := ite_t c9 hf
        refine r_iconst (v := (-1)) h dX1_latest_61 (by decide) ?_
        exact r_ireturn h hq dX1_latest_62 ⟨_, rfl, hf⟩
      · have hf := ite_f c9 hf
        refine r_aload_n h 0 dX1_latest_27 rfl rfl ?_
        obtain ⟨b10, e11, hf⟩ := hf
        refine g577 h dX1_latest_28 k5 e11 ?_
        refine r_aload_n h 2 dX1_latest_31 rfl rfl ?_
        obtain ⟨k12, hf⟩ := hf
        refine g260 h dX1_latest_32 k12 ?_
        refine r_aload_n h 2 dX1_latest_35 rfl rfl ?_
        refine g263 h dX1_latest_36 k12 ?_
        refine r_iload h 3 dX1_latest_39 rfl ?_
        refine r_iconst (v := 0) h dX1_latest_41 (by decide) ?_
        obtain ⟨k13, hf⟩ := hf
        refine c1380 hl h dX1_latest_42 k13 hf (Nat.le_of_ble_eq_true rfl) (by decide) (by decide) (fun b15 M14 hf => ?_)
        obtain ⟨k16, hf⟩ := hf
        refine g559 h dX1_latest_45 k16 ?_
        refine r_iload_n h 1 dX1_latest_48 rfl rfl ?_
        refine r_icmp_gt (tgt := 55) h dX1_latest_49 (by decide) (fun c17 => ?_) (fun c17 => ?_)
        · have hf := ite_t c17 hf
          refine r_iinc (v := v4 + (-1)) (lv' := [(4, .int (v4 + (-1))), (0, .ref v0), (2, .int v2), (3, .ref v3)]) h 3 dX1_latest_55 rfl rfl (by decide) rfl ?_
          refine r_goto (tgt := 15) h dX1_latest_58 (by decide) ?_
          exact V.sub [1, 2, 3, 0] rfl hf
        · have hf := ite_f c17 hf
          refine r_iload h 3 dX1_latest_52 rfl ?_
          exact r_ireturn h hq dX1_latest_54 ⟨_, rfl, hf⟩)
  refine r_aload_n h 0 dX1_latest_0 rfl rfl ?_
  refine r_iload_n h 1 dX1_latest_1 rfl rfl ?_
  obtain ⟨k1, hf⟩ := hf
  refine c1231 hl h dX1_latest_2 k1 hf (Nat.le_of_ble_eq_true rfl) (by decide) (by decide) (by decide) (by decide) (fun b3 M2 hf => ?_) (fun q9 E9 M9 hf => r_out h hq hf)
  refine r_astore_n (lv' := [(3, .ref b3), (0, .ref a0), (1, .int a1), (2, .int a2)]) h dX1_latest_5 rfl (by decide) rfl ?_
  refine r_iload_n h 3 dX1_latest_6 rfl rfl ?_
  refine c1144 hl h dX1_latest_7 hf (Nat.le_of_ble_eq_true rfl) (by decide) (by decide) (by decide) (by decide) (fun M4 hf => ?_) (fun q9 E9 M9 hf => r_out h hq hf)
  refine r_iload_n h 3 dX1_latest_10 rfl rfl ?_
  refine r_iconst (v := 1) h dX1_latest_11 (by decide) ?_
  refine r_isub h dX1_latest_12 ?_
  refine r_istore (lv' := [(4, .int (a2 - 1)), (3, .ref b3), (0, .ref a0), (1, .int a1), (2, .int a2)]) h dX1_latest_13 (by decide) rfl ?_
  exact V.sub [2, 4, 1, 0] rfl hf
theorem c1384 {l : Launch} {G : gG} {X : gX} {cc : ByteArray} {nL F L bc bs pc : Nat} {M : gM} {lv : List (Nat × Value)} {rest : List Value} {a0 : Nat} {a1 : Int32} {a2 : Int32} {K : Int32 → gM → Prop} {KX : Addr → String → gM → Prop} (hl : l.stackTraces = false) (h : hX l G X cc nL "GlacierMailLaw" F L) (d : decode cc pc = .ok (.invokevirtual 66, 3)) (hk : kd M a0 = some (.inl 1)) (hf : f_X1_latest a0 a1 a2 M K KX) (hst : (rest.map fun v => v.category).sum ≤ 8) (hF : 29 ≤ F) (hL : 650 ≤ L) (h1 : 2 ≤ bc) (h2 : 12 ≤ bs) (kk : ∀ x M1, K x M1 → V l G X (bc - 2) (bs - 12) M1 (pc + 3) lv (.int x :: rest)) (kx : ∀ q E M1, KX q E M1 → VX l G X (bc - 2) (bs - 12) M1 pc lv q E) : V l G X bc bs M pc lv (.int a2 :: .int a1 :: .ref a0 :: rest) := r_callV (n := 2) (As := [.int a1, .int a2]) h (m_X1_latest hl hf) 1 rfl hk rfl ⟨by decide, by decide, by decide +kernel⟩ d q1384 q1385 q1386 q135 q1387 rfl rfl hst hF hL h1 h2 (kI_go kk) kx
def f_X0_latest (a0 : Nat) (a1 : Int32) (a2 : Int32) (a3 : Nat) (M : gM) (K : Int32 → gM → Prop) : Prop :=
  kd M a0 = some (.inl 1) ∧ f_X1_latest a0 a1 a2 M (fun x3 M2 => inA M2 a3 2 0 ∧ ∀ M5, M5 = sJ M2 a3 (ix 0) (x3.toInt64) → K 0 M5) (fun q9 E9 M9 => (E9 = "java/lang/IndexOutOfBoundsException" ∧ K 1 M9) ∨ (E9 = "java/lang/IllegalArgumentException" ∧ K 2 M9))
set_option maxHeartbeats 4000000 in
theorem m_X0_latest {l : Launch} (hl : l.stackTraces = false) {G : gG} {a0 : Nat} {a1 : Int32} {a2 : Int32} {a3 : Nat} {M : gM} {K : Int32 → gM → Prop} (hf : f_X0_latest a0 a1 a2 a3 M K) : gMet l G yX0_latest (wsW_ yX0_latest cX0_latest 5 (some Jvm.ClassFile.FieldType.int) [(0, 10, 13, 28), (0, 10, 17, 13)]) ({ frames := 29, cells := 2, slots := 12, locals := 650 }) M [.ref a0, .int a1, .int a2, .ref a3] (kI K) kN := by
  refine gm_ofH hl (ret := (some Jvm.ClassFile.FieldType.int)) rfl (Nat.le_of_ble_eq_true rfl) (fun X h hq => ?_)
  have h : hX l G X cX0_latest 5 "GlacierMailLaw" 29 650 := h
  have hf := hf
  show V l G X 2 12 M 0 [(0, .ref a0), (1, .int a1), (2, .int a2), (3, .ref a3)] []
  unfold f_X0_latest at hf
  refine r_aload_n h 3 dX0_latest_0 rfl rfl ?_
  refine r_iconst (v := 0) h dX0_latest_1 (by decide) ?_
  refine r_aload_n h 0 dX0_latest_2 rfl rfl ?_
  refine r_iload_n h 1 dX0_latest_3 rfl rfl ?_
  refine r_iload_n h 2 dX0_latest_4 rfl rfl ?_
  obtain ⟨k1, hf⟩ := hf
  refine c1384 hl h dX0_latest_5 k1 hf (Nat.le_of_ble_eq_true rfl) (by decide) (by decide) (by decide) (by decide) (fun x3 M2 hf => ?_) (fun q9 E9 M9 hf => ?_)
  · skip
    refine r_i2l h dX0_latest_8 ?_
    obtain ⟨j4, hf⟩ := hf
    refine r_lastore h dX0_latest_9 j4 ?_
    refine r_goW (fun M5 eM5 => ?_)
    have hf := hf M5 eM5
    refine r_goto (tgt := 21) h dX0_latest_10 (by decide) ?_
    refine r_iconst (v := 0) h dX0_latest_21 (by decide) ?_
    exact r_ireturn h hq dX0_latest_22 ⟨_, rfl, hf⟩
  · rcases hf with ⟨rfl, hf⟩ | ⟨rfl, hf⟩
    · refine r_catch h hq 0 (E := "java/lang/IndexOutOfBoundsException") (nm := "java/lang/IndexOutOfBoundsException") rfl (fun z hz => nomatch hz) (by decide) (by decide) q1153 (List.mem_of_getElem? (i := 8) rfl) ?_
      refine r_astore (lv' := [(4, .ref q9), (0, .ref a0), (1, .int a1), (2, .int a2), (3, .ref a3)]) h dX0_latest_13 (by decide) rfl ?_
      refine r_iconst (v := 1) h dX0_latest_15 (by decide) ?_
      exact r_ireturn h hq dX0_latest_16 ⟨_, rfl, hf⟩
    · refine r_catch h hq 1 (E := "java/lang/IllegalArgumentException") (nm := "java/lang/IllegalArgumentException") rfl (List.forall_mem_cons.mpr ⟨Or.inr ⟨by decide, "java/lang/IndexOutOfBoundsException", q1153, List.mem_of_getElem? (i := 16) rfl⟩, List.forall_mem_nil _⟩) (by decide) (by decide) q822 (List.mem_of_getElem? (i := 5) rfl) ?_
      refine r_astore (lv' := [(4, .ref q9), (0, .ref a0), (1, .int a1), (2, .int a2), (3, .ref a3)]) h dX0_latest_17 (by decide) rfl ?_
      refine r_iconst (v := 2) h dX0_latest_19 (by decide) ?_
      exact r_ireturn h hq dX0_latest_20 ⟨_, rfl, hf⟩
theorem c1381 {l : Launch} {G : gG} {X : gX} {cc : ByteArray} {nL F L bc bs pc : Nat} {M : gM} {lv : List (Nat × Value)} {rest : List Value} {a0 : Nat} {a1 : Int32} {a2 : Int32} {a3 : Nat} {K : Int32 → gM → Prop} (hl : l.stackTraces = false) (h : hX l G X cc nL "GlacierMailLaw" F L) (d : decode cc pc = .ok (.invokestatic 205, 3)) (hf : f_X0_latest a0 a1 a2 a3 M K) (hst : (rest.map fun v => v.category).sum ≤ 8) (hF : 30 ≤ F) (hL : 674 ≤ L) (h1 : 2 ≤ bc) (h2 : 12 ≤ bs) (kk : ∀ x M1, K x M1 → V l G X (bc - 2) (bs - 12) M1 (pc + 3) lv (.int x :: rest)) : V l G X bc bs M pc lv (.ref a3 :: .int a2 :: .int a1 :: .ref a0 :: rest) := r_callSH (n := 4) (As := [.ref a0, .int a1, .int a2, .ref a3]) h (m_X0_latest hl hf) ⟨by decide, by decide, by decide +kernel⟩ d q1381 q1382 q134 q1383 rfl rfl hst hF hL h1 h2 (kI_go kk) kN_go
def f_X1_hut (a0 : Nat) (a1 : Int32) (a2 : Int32) (M : gM) (K : Int32 → gM → Prop) (KX : Addr → String → gM → Prop) : Prop :=
  ∀ P18 : Nat → Int32 → Int32 → Int32 → gM → Prop,
  (∀ (v0 : Nat) (v1 : Int32) (v2 : Int32) (v3 : Int32) (M : gM), (kd M v0 = some (.inl 1) ∧ ∃ b7, rv M v0 1 = some b7 ∧ kd M b7 = some (.inl 3) ∧ if (iv M b7 10) ≤ v3 then K (-1) M else ∃ b11, rv M v0 4 = some b11 ∧ ∃ b13, rv M v0 1 = some b13 ∧ kd M b13 = some (.inl 3) ∧ kd M b11 = some (.inl 9) ∧ f_X9_goes b11 v1 v3 (iv M b13 22) 0 M (fun b18 M17 => kd M17 b18 = some (.inl 9) ∧ if (iv M17 b18 3) = 2147483647 then P18 v0 v1 v2 (v3 + 1) M17 else kd M17 v0 = some (.inl 1) ∧ ∃ b22, rv M17 v0 1 = some b22 ∧ kd M17 b22 = some (.inl 3) ∧ if v2 < ((iv M17 b18 3) - (iv M17 b22 22)) then P18 v0 v1 v2 (v3 + 1) M17 else K v3 M17)) → P18 v0 v1 v2 v3 M) →
  kd M a0 = some (.inl 1) ∧ f_X1_isLane a0 a1 M (fun M2 => f_X1_isIn a2 1 299 M2 (fun x4 M3 => f_X1_must x4 M3 (fun M5 => P18 a0 a1 a2 0 M5) KX)) KX
set_option maxHeartbeats 4000000 in
theorem m_X1_hut {l : Launch} (hl : l.stackTraces = false) {G : gG} {a0 : Nat} {a1 : Int32} {a2 : Int32} {M : gM} {K : Int32 → gM → Prop} {KX : Addr → String → gM → Prop} (hf : f_X1_hut a0 a1 a2 M K KX) : gMet l G yX1_hut (ws_ yX1_hut cX1_hut 5 (some Jvm.ClassFile.FieldType.int)) ({ frames := 28, cells := 2, slots := 12, locals := 626 }) M [.ref a0, .int a1, .int a2] (kI K) KX := by
  refine gm_of hl (ret := (some Jvm.ClassFile.FieldType.int)) rfl (Nat.le_of_ble_eq_true rfl) (fun X h hq => ?_)
  have h : hX l G X cX1_hut 5 "GlacierMail" 28 626 := h
  have hf := hf
  show V l G X 2 12 M 0 [(0, .ref a0), (1, .int a1), (2, .int a2)] []
  have hf := hf
    (fun v0 v1 v2 v3 M => V l G X 0 0 M 18 [(0, .ref v0), (1, .int v1), (2, .int v2), (3, .int v3)] [])
    (by
      intro v0 v1 v2 v3 M hf
      show V l G X 0 0 M 18 [(0, .ref v0), (1, .int v1), (2, .int v2), (3, .int v3)] []
      refine r_iload_n h 3 dX1_hut_18 rfl rfl ?_
      refine r_aload_n h 0 dX1_hut_19 rfl rfl ?_
      obtain ⟨k6, hf⟩ := hf
      obtain ⟨b7, e8, hf⟩ := hf
      refine g573 h dX1_hut_20 k6 e8 ?_
      obtain ⟨k9, hf⟩ := hf
      refine g346 h dX1_hut_23 k9 ?_
      refine r_icmp_ge (tgt := 80) h dX1_hut_26 (by decide) (fun c10 => ?_) (fun c10 => ?_)
      · have hf := ite_t c10 hf
        refine r_iconst (v := (-1)) h dX1_hut_80 (by decide) ?_
        exact r_ireturn h hq dX1_hut_81 ⟨_, rfl, hf⟩
      · have hf := ite_f c10 hf
        refine r_aload_n h 0 dX1_hut_29 rfl rfl ?_
        obtain ⟨b11, e12, hf⟩ := hf
        refine g577 h dX1_hut_30 k6 e12 ?_
        refine r_iload_n h 1 dX1_hut_33 rfl rfl ?_
        refine r_iload_n h 3 dX1_hut_34 rfl rfl ?_
        refine r_aload_n h 0 dX1_hut_35 rfl rfl ?_
        obtain ⟨b13, e14, hf⟩ := hf
        refine g573 h dX1_hut_36 k6 e14 ?_
        obtain ⟨k15, hf⟩ := hf
        refine g381 h dX1_hut_39 k15 ?_
        refine r_iconst (v := 0) h dX1_hut_42 (by decide) ?_
        obtain ⟨k16, hf⟩ := hf
        refine c1380 hl h dX1_hut_43 k16 hf (Nat.le_of_ble_eq_true rfl) (by decide) (by decide) (fun b18 M17 hf => ?_)
        obtain ⟨k19, hf⟩ := hf
        refine g559 h dX1_hut_46 k19 ?_
        refine r_istore (lv' := [(4, .int (iv M17 b18 3)), (0, .ref v0), (1, .int v1), (2, .int v2), (3, .int v3)]) h dX1_hut_49 (by decide) rfl ?_
        refine r_iload h 0 dX1_hut_51 rfl ?_
        refine r_ldc (v := 2147483647) h dX1_hut_53 q743 ?_
        refine r_icmp_eq (tgt := 74) h dX1_hut_55 (by decide) (fun c20 => ?_) (fun c20 => ?_)
        · have hf := ite_t c20 hf
          refine r_iinc (v := v3 + 1) (lv' := [(3, .int (v3 + 1)), (4, .int (iv M17 b18 3)), (0, .ref v0), (1, .int v1), (2, .int v2)]) h 4 dX1_hut_74 rfl rfl (by decide) rfl ?_
          refine r_goto (tgt := 18) h dX1_hut_77 (by decide) ?_
          exact V.sub [2, 3, 4, 0] rfl hf
        · have hf := ite_f c20 hf
          refine r_iload h 0 dX1_hut_58 rfl ?_
          refine r_aload_n h 1 dX1_hut_60 rfl rfl ?_
          obtain ⟨k21, hf⟩ := hf
          obtain ⟨b22, e23, hf⟩ := hf
          refine g573 h dX1_hut_61 k21 e23 ?_
          obtain ⟨k24, hf⟩ := hf
          refine g381 h dX1_hut_64 k24 ?_
          refine r_isub h dX1_hut_67 ?_
          refine r_iload_n h 3 dX1_hut_68 rfl rfl ?_
          refine r_icmp_gt (tgt := 74) h dX1_hut_69 (by decide) (fun c25 => ?_) (fun c25 => ?_)
          · have hf := ite_t c25 hf
            refine r_iinc (v := v3 + 1) (lv' := [(3, .int (v3 + 1)), (4, .int (iv M17 b18 3)), (0, .ref v0), (1, .int v1), (2, .int v2)]) h 4 dX1_hut_74 rfl rfl (by decide) rfl ?_
            refine r_goto (tgt := 18) h dX1_hut_77 (by decide) ?_
            exact V.sub [2, 3, 4, 0] rfl hf
          · have hf := ite_f c25 hf
            refine r_iload_n h 4 dX1_hut_72 rfl rfl ?_
            exact r_ireturn h hq dX1_hut_73 ⟨_, rfl, hf⟩)
  refine r_aload_n h 0 dX1_hut_0 rfl rfl ?_
  refine r_iload_n h 1 dX1_hut_1 rfl rfl ?_
  obtain ⟨k1, hf⟩ := hf
  refine c1189 hl h dX1_hut_2 k1 hf (Nat.le_of_ble_eq_true rfl) (by decide) (by decide) (by decide) (by decide) (fun M2 hf => ?_) (fun q9 E9 M9 hf => r_out h hq hf)
  refine r_iload_n h 2 dX1_hut_5 rfl rfl ?_
  refine r_iconst (v := 1) h dX1_hut_6 (by decide) ?_
  refine r_sipush (v := 299) h dX1_hut_7 (by decide) ?_
  refine c634 hl h dX1_hut_10 hf (Nat.le_of_ble_eq_true rfl) (by decide) (by decide) (fun x4 M3 hf => ?_)
  refine c1147 hl h dX1_hut_13 hf (Nat.le_of_ble_eq_true rfl) (by decide) (by decide) (by decide) (by decide) (fun M5 hf => ?_) (fun q9 E9 M9 hf => r_out h hq hf)
  refine r_iconst (v := 0) h dX1_hut_16 (by decide) ?_
  refine r_istore_n (lv' := [(3, .int 0), (0, .ref a0), (1, .int a1), (2, .int a2)]) h dX1_hut_17 rfl (by decide) rfl ?_
  exact V.sub [1, 2, 3, 0] rfl hf
theorem c1391 {l : Launch} {G : gG} {X : gX} {cc : ByteArray} {nL F L bc bs pc : Nat} {M : gM} {lv : List (Nat × Value)} {rest : List Value} {a0 : Nat} {a1 : Int32} {a2 : Int32} {K : Int32 → gM → Prop} {KX : Addr → String → gM → Prop} (hl : l.stackTraces = false) (h : hX l G X cc nL "GlacierMailLaw" F L) (d : decode cc pc = .ok (.invokevirtual 69, 3)) (hk : kd M a0 = some (.inl 1)) (hf : f_X1_hut a0 a1 a2 M K KX) (hst : (rest.map fun v => v.category).sum ≤ 8) (hF : 29 ≤ F) (hL : 650 ≤ L) (h1 : 2 ≤ bc) (h2 : 12 ≤ bs) (kk : ∀ x M1, K x M1 → V l G X (bc - 2) (bs - 12) M1 (pc + 3) lv (.int x :: rest)) (kx : ∀ q E M1, KX q E M1 → VX l G X (bc - 2) (bs - 12) M1 pc lv q E) : V l G X bc bs M pc lv (.int a2 :: .int a1 :: .ref a0 :: rest) := r_callV (n := 2) (As := [.int a1, .int a2]) h (m_X1_hut hl hf) 1 rfl hk rfl ⟨by decide, by decide, by decide +kernel⟩ d q1391 q1392 q1393 q135 q1394 rfl rfl hst hF hL h1 h2 (kI_go kk) kx
def f_X0_hut (a0 : Nat) (a1 : Int32) (a2 : Int32) (a3 : Nat) (M : gM) (K : Int32 → gM → Prop) : Prop :=
  kd M a0 = some (.inl 1) ∧ f_X1_hut a0 a1 a2 M (fun x3 M2 => inA M2 a3 2 0 ∧ ∀ M5, M5 = sJ M2 a3 (ix 0) (x3.toInt64) → K 0 M5) (fun q9 E9 M9 => (E9 = "java/lang/IndexOutOfBoundsException" ∧ K 1 M9) ∨ (E9 = "java/lang/IllegalArgumentException" ∧ K 2 M9))
set_option maxHeartbeats 4000000 in
theorem m_X0_hut {l : Launch} (hl : l.stackTraces = false) {G : gG} {a0 : Nat} {a1 : Int32} {a2 : Int32} {a3 : Nat} {M : gM} {K : Int32 → gM → Prop} (hf : f_X0_hut a0 a1 a2 a3 M K) : gMet l G yX0_hut (wsW_ yX0_hut cX0_hut 5 (some Jvm.ClassFile.FieldType.int) [(0, 10, 13, 28), (0, 10, 17, 13)]) ({ frames := 29, cells := 2, slots := 12, locals := 650 }) M [.ref a0, .int a1, .int a2, .ref a3] (kI K) kN := by
  refine gm_ofH hl (ret := (some Jvm.ClassFile.FieldType.int)) rfl (Nat.le_of_ble_eq_true rfl) (fun X h hq => ?_)
  have h : hX l G X cX0_hut 5 "GlacierMailLaw" 29 650 := h
  have hf := hf
  show V l G X 2 12 M 0 [(0, .ref a0), (1, .int a1), (2, .int a2), (3, .ref a3)] []
  unfold f_X0_hut at hf
  refine r_aload_n h 3 dX0_hut_0 rfl rfl ?_
  refine r_iconst (v := 0) h dX0_hut_1 (by decide) ?_
  refine r_aload_n h 0 dX0_hut_2 rfl rfl ?_
  refine r_iload_n h 1 dX0_hut_3 rfl rfl ?_
  refine r_iload_n h 2 dX0_hut_4 rfl rfl ?_
  obtain ⟨k1, hf⟩ := hf
  refine c1391 hl h dX0_hut_5 k1 hf (Nat.le_of_ble_eq_true rfl) (by decide) (by decide) (by decide) (by decide) (fun x3 M2 hf => ?_) (fun q9 E9 M9 hf => ?_)
  · skip
    refine r_i2l h dX0_hut_8 ?_
    obtain ⟨j4, hf⟩ := hf
    refine r_lastore h dX0_hut_9 j4 ?_
    refine r_goW (fun M5 eM5 => ?_)
    have hf := hf M5 eM5
    refine r_goto (tgt := 21) h dX0_hut_10 (by decide) ?_
    refine r_iconst (v := 0) h dX0_hut_21 (by decide) ?_
    exact r_ireturn h hq dX0_hut_22 ⟨_, rfl, hf⟩
  · rcases hf with ⟨rfl, hf⟩ | ⟨rfl, hf⟩
    · refine r_catch h hq 0 (E := "java/lang/IndexOutOfBoundsException") (nm := "java/lang/IndexOutOfBoundsException") rfl (fun z hz => nomatch hz) (by decide) (by decide) q1153 (List.mem_of_getElem? (i := 8) rfl) ?_
      refine r_astore (lv' := [(4, .ref q9), (0, .ref a0), (1, .int a1), (2, .int a2), (3, .ref a3)]) h dX0_hut_13 (by decide) rfl ?_
      refine r_iconst (v := 1) h dX0_hut_15 (by decide) ?_
      exact r_ireturn h hq dX0_hut_16 ⟨_, rfl, hf⟩
    · refine r_catch h hq 1 (E := "java/lang/IllegalArgumentException") (nm := "java/lang/IllegalArgumentException") rfl (List.forall_mem_cons.mpr ⟨Or.inr ⟨by decide, "java/lang/IndexOutOfBoundsException", q1153, List.mem_of_getElem? (i := 16) rfl⟩, List.forall_mem_nil _⟩) (by decide) (by decide) q822 (List.mem_of_getElem? (i := 5) rfl) ?_
      refine r_astore (lv' := [(4, .ref q9), (0, .ref a0), (1, .int a1), (2, .int a2), (3, .ref a3)]) h dX0_hut_17 (by decide) rfl ?_
      refine r_iconst (v := 2) h dX0_hut_19 (by decide) ?_
      exact r_ireturn h hq dX0_hut_20 ⟨_, rfl, hf⟩
theorem c1388 {l : Launch} {G : gG} {X : gX} {cc : ByteArray} {nL F L bc bs pc : Nat} {M : gM} {lv : List (Nat × Value)} {rest : List Value} {a0 : Nat} {a1 : Int32} {a2 : Int32} {a3 : Nat} {K : Int32 → gM → Prop} (hl : l.stackTraces = false) (h : hX l G X cc nL "GlacierMailLaw" F L) (d : decode cc pc = .ok (.invokestatic 208, 3)) (hf : f_X0_hut a0 a1 a2 a3 M K) (hst : (rest.map fun v => v.category).sum ≤ 8) (hF : 30 ≤ F) (hL : 674 ≤ L) (h1 : 2 ≤ bc) (h2 : 12 ≤ bs) (kk : ∀ x M1, K x M1 → V l G X (bc - 2) (bs - 12) M1 (pc + 3) lv (.int x :: rest)) : V l G X bc bs M pc lv (.ref a3 :: .int a2 :: .int a1 :: .ref a0 :: rest) := r_callSH (n := 4) (As := [.ref a0, .int a1, .int a2, .ref a3]) h (m_X0_hut hl hf) ⟨by decide, by decide, by decide +kernel⟩ d q1388 q1389 q134 q1390 rfl rfl hst hF hL h1 h2 (kI_go kk) kN_go
def f_X1_isFlood (a0 : Nat) (a1 : Int32) (M : gM) (K : gM → Prop) (KX : Addr → String → gM → Prop) : Prop :=
  kd M a0 = some (.inl 1) ∧ ∃ b2, rv M a0 1 = some b2 ∧ kd M b2 = some (.inl 3) ∧ f_X1_isIn a1 0 ((iv M b2 12) - 1) M (fun x6 M5 => f_X1_mustBe x6 M5 (fun M7 => K M7) KX)
set_option maxHeartbeats 4000000 in
theorem m_X1_isFlood {l : Launch} (hl : l.stackTraces = false) {G : gG} {a0 : Nat} {a1 : Int32} {M : gM} {K : gM → Prop} {KX : Addr → String → gM → Prop} (hf : f_X1_isFlood a0 a1 M K KX) : gMet l G yX1_isFlood (ws_ yX1_isFlood cX1_isFlood 2 none) ({ frames := 13, cells := 1, slots := 6, locals := 220 }) M [.ref a0, .int a1] (kV K) KX := by
  refine gm_of hl (ret := none) rfl (Nat.le_of_ble_eq_true rfl) (fun X h hq => ?_)
  have h : hX l G X cX1_isFlood 2 "GlacierMail" 13 220 := h
  have hf := hf
  show V l G X 1 6 M 0 [(0, .ref a0), (1, .int a1)] []
  unfold f_X1_isFlood at hf
  refine r_iload_n h 1 dX1_isFlood_0 rfl rfl ?_
  refine r_iconst (v := 0) h dX1_isFlood_1 (by decide) ?_
  refine r_aload_n h 0 dX1_isFlood_2 rfl rfl ?_
  obtain ⟨k1, hf⟩ := hf
  obtain ⟨b2, e3, hf⟩ := hf
  refine g573 h dX1_isFlood_3 k1 e3 ?_
  obtain ⟨k4, hf⟩ := hf
  refine g353 h dX1_isFlood_6 k4 ?_
  refine r_iconst (v := 1) h dX1_isFlood_9 (by decide) ?_
  refine r_isub h dX1_isFlood_10 ?_
  refine c634 hl h dX1_isFlood_11 hf (Nat.le_of_ble_eq_true rfl) (by decide) (by decide) (fun x6 M5 hf => ?_)
  refine c1193 hl h dX1_isFlood_14 hf (Nat.le_of_ble_eq_true rfl) (by decide) (by decide) (by decide) (by decide) (fun M7 hf => ?_) (fun q9 E9 M9 hf => r_out h hq hf)
  exact r_return h hq dX1_isFlood_17 ⟨rfl, hf⟩
theorem c1402 {l : Launch} {G : gG} {X : gX} {cc : ByteArray} {nL F L bc bs pc : Nat} {M : gM} {lv : List (Nat × Value)} {rest : List Value} {a0 : Nat} {a1 : Int32} {K : gM → Prop} {KX : Addr → String → gM → Prop} (hl : l.stackTraces = false) (h : hX l G X cc nL "GlacierMail" F L) (d : decode cc pc = .ok (.invokevirtual 317, 3)) (hk : kd M a0 = some (.inl 1)) (hf : f_X1_isFlood a0 a1 M K KX) (hst : (rest.map fun v => v.category).sum ≤ 8) (hF : 14 ≤ F) (hL : 241 ≤ L) (h1 : 1 ≤ bc) (h2 : 6 ≤ bs) (kk : ∀ M1, K M1 → V l G X (bc - 1) (bs - 6) M1 (pc + 3) lv rest) (kx : ∀ q E M1, KX q E M1 → VX l G X (bc - 1) (bs - 6) M1 pc lv q E) : V l G X bc bs M pc lv (.int a1 :: .ref a0 :: rest) := r_callV (n := 1) (As := [.int a1]) h (m_X1_isFlood hl hf) 1 rfl hk rfl ⟨by decide, by decide, by decide +kernel⟩ d q1402 q1404 qs40 q135 q1405 rfl rfl hst hF hL h1 h2 (kV_go kk) kx
def f_X1_without (a0 : Nat) (a1 : Int32) (a2 : Int32) (M : gM) (K : Int32 → gM → Prop) (KX : Addr → String → gM → Prop) : Prop :=
  kd M a0 = some (.inl 1) ∧ f_X1_letterAt a0 a1 M (fun b3 M2 => kd M2 a0 = some (.inl 1) ∧ f_X1_isFlood a0 a2 M2 (fun M5 => kd M5 a0 = some (.inl 1) ∧ ∃ b7, rv M5 a0 1 = some b7 ∧ kd M5 b7 = some (.inl 3) ∧ ∃ b10, rv M5 b7 1 = some b10 ∧ inA M5 b10 6 a2 ∧ ∃ b13, rv M5 b10 (ix a2) = some b13 ∧ kd M5 b13 = some (.inl 5) ∧ ∀ M16, M16 = sI M5 b13 0 (-1) → kd M16 a0 = some (.inl 1) ∧ ∃ b18, rv M16 a0 4 = some b18 ∧ kd M16 b18 = some (.inl 9) ∧ f_X9_of b18 b3 M16 (fun b22 M21 => kd M21 b22 = some (.inl 9) ∧ f_X9_outYear b22 M21 (fun x25 M24 => kd M24 b13 = some (.inl 5) ∧ ∀ M27, M27 = sI M24 b13 0 (iv M5 b13 0) → K x25 M27))) KX) KX
set_option maxHeartbeats 4000000 in
theorem m_X1_without {l : Launch} (hl : l.stackTraces = false) {G : gG} {a0 : Nat} {a1 : Int32} {a2 : Int32} {M : gM} {K : Int32 → gM → Prop} {KX : Addr → String → gM → Prop} (hf : f_X1_without a0 a1 a2 M K KX) : gMet l G yX1_without (ws_ yX1_without cX1_without 7 (some Jvm.ClassFile.FieldType.int)) ({ frames := 29, cells := 2, slots := 12, locals := 647 }) M [.ref a0, .int a1, .int a2] (kI K) KX := by
  refine gm_of hl (ret := (some Jvm.ClassFile.FieldType.int)) rfl (Nat.le_of_ble_eq_true rfl) (fun X h hq => ?_)
  have h : hX l G X cX1_without 7 "GlacierMail" 29 647 := h
  have hf := hf
  show V l G X 2 12 M 0 [(0, .ref a0), (1, .int a1), (2, .int a2)] []
  unfold f_X1_without at hf
  refine r_aload_n h 0 dX1_without_0 rfl rfl ?_
  refine r_iload_n h 1 dX1_without_1 rfl rfl ?_
  obtain ⟨k1, hf⟩ := hf
  refine c1261 hl h dX1_without_2 k1 hf (Nat.le_of_ble_eq_true rfl) (by decide) (by decide) (by decide) (by decide) (fun b3 M2 hf => ?_) (fun q9 E9 M9 hf => r_out h hq hf)
  refine r_astore_n (lv' := [(3, .ref b3), (0, .ref a0), (1, .int a1), (2, .int a2)]) h dX1_without_5 rfl (by decide) rfl ?_
  refine r_aload_n h 1 dX1_without_6 rfl rfl ?_
  refine r_iload_n h 3 dX1_without_7 rfl rfl ?_
  obtain ⟨k4, hf⟩ := hf
  refine c1402 hl h dX1_without_8 k4 hf (Nat.le_of_ble_eq_true rfl) (by decide) (by decide) (by decide) (by decide) (fun M5 hf => ?_) (fun q9 E9 M9 hf => r_out h hq hf)
  refine r_aload_n h 1 dX1_without_11 rfl rfl ?_
  obtain ⟨k6, hf⟩ := hf
  obtain ⟨b7, e8, hf⟩ := hf
  refine g573 h dX1_without_12 k6 e8 ?_
  obtain ⟨k9, hf⟩ := hf
  obtain ⟨b10, e11, hf⟩ := hf
  refine g324 h dX1_without_15 k9 e11 ?_
  refine r_iload_n h 3 dX1_without_18 rfl rfl ?_
  obtain ⟨j12, b13, e14, hf⟩ := hf
  refine r_aaload h 6 (by decide) (by decide) dX1_without_19 j12 (v := .ref b13) (by rw [e14]; rfl) ?_
  refine r_astore (lv' := [(4, .ref b13), (3, .ref b3), (0, .ref a0), (1, .int a1), (2, .int a2)]) h dX1_without_20 (by decide) rfl ?_
  refine r_aload h 0 dX1_without_22 rfl ?_
  obtain ⟨k15, hf⟩ := hf
  refine g239 h dX1_without_24 k15 ?_
  refine r_istore (lv' := [(5, .int (iv M5 b13 0)), (4, .ref b13), (3, .ref b3), (0, .ref a0), (1, .int a1), (2, .int a2)]) h dX1_without_27 (by decide) rfl ?_
  refine r_aload h 1 dX1_without_29 rfl ?_
  refine r_iconst (v := (-1)) h dX1_without_31 (by decide) ?_
  refine p239 h dX1_without_32 k15 ?_
  refine r_goW (fun M16 eM16 => ?_)
  have hf := hf M16 eM16
  refine r_aload_n h 3 dX1_without_35 rfl rfl ?_
  obtain ⟨k17, hf⟩ := hf
  obtain ⟨b18, e19, hf⟩ := hf
  refine g577 h dX1_without_36 k17 e19 ?_
  refine r_aload_n h 2 dX1_without_39 rfl rfl ?_
  obtain ⟨k20, hf⟩ := hf
  refine c649 hl h dX1_without_40 k20 hf (Nat.le_of_ble_eq_true rfl) (by decide) (by decide) (fun b22 M21 hf => ?_)
  obtain ⟨k23, hf⟩ := hf
  refine c1265 hl h dX1_without_43 k23 hf (Nat.le_of_ble_eq_true rfl) (by decide) (by decide) (fun x25 M24 hf => ?_)
  refine r_istore (lv' := [(6, .int x25), (5, .int (iv M5 b13 0)), (4, .ref b13), (3, .ref b3), (0, .ref a0), (1, .int a1), (2, .int a2)]) h dX1_without_46 (by decide) rfl ?_
  refine r_aload h 2 dX1_without_48 rfl ?_
  refine r_iload h 1 dX1_without_50 rfl ?_
  obtain ⟨k26, hf⟩ := hf
  refine p239 h dX1_without_52 k26 ?_
  refine r_goW (fun M27 eM27 => ?_)
  have hf := hf M27 eM27
  refine r_iload h 0 dX1_without_55 rfl ?_
  exact r_ireturn h hq dX1_without_57 ⟨_, rfl, hf⟩
theorem c1398 {l : Launch} {G : gG} {X : gX} {cc : ByteArray} {nL F L bc bs pc : Nat} {M : gM} {lv : List (Nat × Value)} {rest : List Value} {a0 : Nat} {a1 : Int32} {a2 : Int32} {K : Int32 → gM → Prop} {KX : Addr → String → gM → Prop} (hl : l.stackTraces = false) (h : hX l G X cc nL "GlacierMailLaw" F L) (d : decode cc pc = .ok (.invokevirtual 72, 3)) (hk : kd M a0 = some (.inl 1)) (hf : f_X1_without a0 a1 a2 M K KX) (hst : (rest.map fun v => v.category).sum ≤ 8) (hF : 30 ≤ F) (hL : 673 ≤ L) (h1 : 2 ≤ bc) (h2 : 12 ≤ bs) (kk : ∀ x M1, K x M1 → V l G X (bc - 2) (bs - 12) M1 (pc + 3) lv (.int x :: rest)) (kx : ∀ q E M1, KX q E M1 → VX l G X (bc - 2) (bs - 12) M1 pc lv q E) : V l G X bc bs M pc lv (.int a2 :: .int a1 :: .ref a0 :: rest) := r_callV (n := 2) (As := [.int a1, .int a2]) h (m_X1_without hl hf) 1 rfl hk rfl ⟨by decide, by decide, by decide +kernel⟩ d q1398 q1399 q1400 q135 q1401 rfl rfl hst hF hL h1 h2 (kI_go kk) kx
def f_X0_without (a0 : Nat) (a1 : Int32) (a2 : Int32) (a3 : Nat) (M : gM) (K : Int32 → gM → Prop) : Prop :=
  kd M a0 = some (.inl 1) ∧ f_X1_without a0 a1 a2 M (fun x3 M2 => inA M2 a3 2 0 ∧ ∀ M5, M5 = sJ M2 a3 (ix 0) (x3.toInt64) → K 0 M5) (fun q9 E9 M9 => (E9 = "java/lang/IndexOutOfBoundsException" ∧ K 1 M9))
set_option maxHeartbeats 4000000 in
theorem m_X0_without {l : Launch} (hl : l.stackTraces = false) {G : gG} {a0 : Nat} {a1 : Int32} {a2 : Int32} {a3 : Nat} {M : gM} {K : Int32 → gM → Prop} (hf : f_X0_without a0 a1 a2 a3 M K) : gMet l G yX0_without (wsW_ yX0_without cX0_without 5 (some Jvm.ClassFile.FieldType.int) [(0, 10, 13, 28)]) ({ frames := 30, cells := 2, slots := 12, locals := 673 }) M [.ref a0, .int a1, .int a2, .ref a3] (kI K) kN := by
  refine gm_ofH hl (ret := (some Jvm.ClassFile.FieldType.int)) rfl (Nat.le_of_ble_eq_true rfl) (fun X h hq => ?_)
  have h : hX l G X cX0_without 5 "GlacierMailLaw" 30 673 := h
  have hf := hf
  show V l G X 2 12 M 0 [(0, .ref a0), (1, .int a1), (2, .int a2), (3, .ref a3)] []
  unfold f_X0_without at hf
  refine r_aload_n h 3 dX0_without_0 rfl rfl ?_
  refine r_iconst (v := 0) h dX0_without_1 (by decide) ?_
  refine r_aload_n h 0 dX0_without_2 rfl rfl ?_
  refine r_iload_n h 1 dX0_without_3 rfl rfl ?_
  refine r_iload_n h 2 dX0_without_4 rfl rfl ?_
  obtain ⟨k1, hf⟩ := hf
  refine c1398 hl h dX0_without_5 k1 hf (Nat.le_of_ble_eq_true rfl) (by decide) (by decide) (by decide) (by decide) (fun x3 M2 hf => ?_) (fun q9 E9 M9 hf => ?_)
  · skip
    refine r_i2l h dX0_without_8 ?_
    obtain ⟨j4, hf⟩ := hf
    refine r_lastore h dX0_without_9 j4 ?_
    refine r_goW (fun M5 eM5 => ?_)
    have hf := hf M5 eM5
    refine r_goto (tgt := 17) h dX0_without_10 (by decide) ?_
    refine r_iconst (v := 0) h dX0_without_17 (by decide) ?_
    exact r_ireturn h hq dX0_without_18 ⟨_, rfl, hf⟩
  · rcases hf with ⟨rfl, hf⟩
    · refine r_catch h hq 0 (E := "java/lang/IndexOutOfBoundsException") (nm := "java/lang/IndexOutOfBoundsException") rfl (fun z hz => nomatch hz) (by decide) (by decide) q1153 (List.mem_of_getElem? (i := 8) rfl) ?_
      refine r_astore (lv' := [(4, .ref q9), (0, .ref a0), (1, .int a1), (2, .int a2), (3, .ref a3)]) h dX0_without_13 (by decide) rfl ?_
      refine r_iconst (v := 1) h dX0_without_15 (by decide) ?_
      exact r_ireturn h hq dX0_without_16 ⟨_, rfl, hf⟩
theorem c1395 {l : Launch} {G : gG} {X : gX} {cc : ByteArray} {nL F L bc bs pc : Nat} {M : gM} {lv : List (Nat × Value)} {rest : List Value} {a0 : Nat} {a1 : Int32} {a2 : Int32} {a3 : Nat} {K : Int32 → gM → Prop} (hl : l.stackTraces = false) (h : hX l G X cc nL "GlacierMailLaw" F L) (d : decode cc pc = .ok (.invokestatic 211, 3)) (hf : f_X0_without a0 a1 a2 a3 M K) (hst : (rest.map fun v => v.category).sum ≤ 8) (hF : 31 ≤ F) (hL : 697 ≤ L) (h1 : 2 ≤ bc) (h2 : 12 ≤ bs) (kk : ∀ x M1, K x M1 → V l G X (bc - 2) (bs - 12) M1 (pc + 3) lv (.int x :: rest)) : V l G X bc bs M pc lv (.ref a3 :: .int a2 :: .int a1 :: .ref a0 :: rest) := r_callSH (n := 4) (As := [.ref a0, .int a1, .int a2, .ref a3]) h (m_X0_without hl hf) ⟨by decide, by decide, by decide +kernel⟩ d q1395 q1396 q134 q1397 rfl rfl hst hF hL h1 h2 (kI_go kk) kN_go
def f_X1_moved (a0 : Nat) (a1 : Int32) (M : gM) (K : Int32 → gM → Prop) (KX : Addr → String → gM → Prop) : Prop :=
  ∀ P24 : Nat → Nat → Nat → Int32 → Int32 → gM → Prop,
  (∀ (v0 : Nat) (v2 : Nat) (v3 : Nat) (v4 : Int32) (v5 : Int32) (M : gM), (if 300 ≤ (v5 + 1) then K v4 M else kd M v3 = some (.inl 9) ∧ f_X9_isIn v3 v5 M (fun x14 M13 => if x14 = 0 then K v4 M13 else kd M13 v3 = some (.inl 9) ∧ ∃ b17, rv M13 v3 0 = some b17 ∧ inA M13 b17 0 v5 ∧ kd M13 v2 = some (.inl 7) ∧ ∃ b21, rv M13 v3 0 = some b21 ∧ inA M13 b21 0 v5 ∧ kd M13 v0 = some (.inl 1) ∧ f_X1_flowOf v0 (iv M13 v2 2) (iv M13 b21 (ix v5)) v5 M13 (fun x26 M25 => kd M25 v0 = some (.inl 1) ∧ ∃ b28, rv M25 v0 1 = some b28 ∧ kd M25 b28 = some (.inl 3) ∧ f_X3_flooded b28 ((iv M13 b17 (ix v5)) + x26) v5 M25 (fun x32 M31 => P24 v0 v2 v3 (v4 + (x32 - ((iv M13 b17 (ix v5)) + x26))) (v5 + 1) M31)))) → P24 v0 v2 v3 v4 v5 M) →
  kd M a0 = some (.inl 1) ∧ f_X1_letterAt a0 a1 M (fun b3 M2 => kd M2 a0 = some (.inl 1) ∧ ∃ b5, rv M2 a0 4 = some b5 ∧ kd M2 b5 = some (.inl 9) ∧ f_X9_of b5 b3 M2 (fun b9 M8 => kd M8 b3 = some (.inl 7) ∧ P24 a0 b3 b9 0 (iv M8 b3 4) M8)) KX
set_option maxHeartbeats 4000000 in
theorem m_X1_moved {l : Launch} (hl : l.stackTraces = false) {G : gG} {a0 : Nat} {a1 : Int32} {M : gM} {K : Int32 → gM → Prop} {KX : Addr → String → gM → Prop} (hf : f_X1_moved a0 a1 M K KX) : gMet l G yX1_moved (ws_ yX1_moved cX1_moved 7 (some Jvm.ClassFile.FieldType.int)) ({ frames := 29, cells := 1, slots := 6, locals := 647 }) M [.ref a0, .int a1] (kI K) KX := by
  refine gm_of hl (ret := (some Jvm.ClassFile.FieldType.int)) rfl (Nat.le_of_ble_eq_true rfl) (fun X h hq => ?_)
  have h : hX l G X cX1_moved 7 "GlacierMail" 29 647 := h
  have hf := hf
  show V l G X 1 6 M 0 [(0, .ref a0), (1, .int a1)] []
  have hf := hf
    (fun v0 v2 v3 v4 v5 M => V l G X 0 0 M 24 [(0, .ref v0), (2, .ref v2), (3, .ref v3), (4, .int v4), (5, .int v5)] [])
    (by
      intro v0 v2 v3 v4 v5 M hf
      show V l G X 0 0 M 24 [(0, .ref v0), (2, .ref v2), (3, .ref v3), (4, .int v4), (5, .int v5)] []
      refine r_iload h 4 dX1_moved_24 rfl ?_
      refine r_iconst (v := 1) h dX1_moved_26 (by decide) ?_
      refine r_iadd h dX1_moved_27 ?_
      refine r_sipush (v := 300) h dX1_moved_28 (by decide) ?_
      refine r_icmp_ge (tgt := 95) h dX1_moved_31 (by decide) (fun c11 => ?_) (fun c11 => ?_)
      · have hf := ite_t c11 hf
        refine r_iload h 3 dX1_moved_95 rfl ?_
        exact r_ireturn h hq dX1_moved_97 ⟨_, rfl, hf⟩
      · have hf := ite_f c11 hf
        refine r_aload_n h 2 dX1_moved_34 rfl rfl ?_
        refine r_iload h 4 dX1_moved_35 rfl ?_
        obtain ⟨k12, hf⟩ := hf
        refine c815 hl h dX1_moved_37 k12 hf (Nat.le_of_ble_eq_true rfl) (by decide) (by decide) (fun x14 M13 hf => ?_)
        refine r_if_eq (tgt := 95) h dX1_moved_40 (by decide) (fun c15 => ?_) (fun c15 => ?_)
        · have hf := ite_t c15 hf
          refine r_iload h 3 dX1_moved_95 rfl ?_
          exact r_ireturn h hq dX1_moved_97 ⟨_, rfl, hf⟩
        · have hf := ite_f c15 hf
          refine r_aload_n h 2 dX1_moved_43 rfl rfl ?_
          obtain ⟨k16, hf⟩ := hf
          obtain ⟨b17, e18, hf⟩ := hf
          refine g553 h dX1_moved_44 k16 e18 ?_
          refine r_iload h 4 dX1_moved_47 rfl ?_
          obtain ⟨j19, hf⟩ := hf
          refine r_iaload h dX1_moved_49 j19 ?_
          refine r_aload_n h 0 dX1_moved_50 rfl rfl ?_
          refine r_aload_n h 1 dX1_moved_51 rfl rfl ?_
          obtain ⟨k20, hf⟩ := hf
          refine g286 h dX1_moved_52 k20 ?_
          refine r_aload_n h 2 dX1_moved_55 rfl rfl ?_
          obtain ⟨b21, e22, hf⟩ := hf
          refine g553 h dX1_moved_56 k16 e22 ?_
          refine r_iload h 4 dX1_moved_59 rfl ?_
          obtain ⟨j23, hf⟩ := hf
          refine r_iaload h dX1_moved_61 j23 ?_
          refine r_iload h 4 dX1_moved_62 rfl ?_
          obtain ⟨k24, hf⟩ := hf
          refine c1413 hl h dX1_moved_64 k24 hf (Nat.le_of_ble_eq_true rfl) (by decide) (by decide) (fun x26 M25 hf => ?_)
          refine r_iadd h dX1_moved_67 ?_
          refine r_istore (lv' := [(6, .int ((iv M13 b17 (ix v5)) + x26)), (0, .ref v0), (2, .ref v2), (3, .ref v3), (4, .int v4), (5, .int v5)]) h dX1_moved_68 (by decide) rfl ?_
          refine r_iload h 4 dX1_moved_70 rfl ?_
          refine r_aload_n h 1 dX1_moved_72 rfl rfl ?_
          obtain ⟨k27, hf⟩ := hf
          obtain ⟨b28, e29, hf⟩ := hf
          refine g573 h dX1_moved_73 k27 e29 ?_
          refine r_iload h 0 dX1_moved_76 rfl ?_
          refine r_iload h 5 dX1_moved_78 rfl ?_
          obtain ⟨k30, hf⟩ := hf
          refine c1414 hl h dX1_moved_80 k30 hf (Nat.le_of_ble_eq_true rfl) (by decide) (by decide) (fun x32 M31 hf => ?_)
          refine r_iload h 0 dX1_moved_83 rfl ?_
          refine r_isub h dX1_moved_85 ?_
          refine r_iadd h dX1_moved_86 ?_
          refine r_istore (lv' := [(4, .int (v4 + (x32 - ((iv M13 b17 (ix v5)) + x26)))), (6, .int ((iv M13 b17 (ix v5)) + x26)), (0, .ref v0), (2, .ref v2), (3, .ref v3), (5, .int v5)]) h dX1_moved_87 (by decide) rfl ?_
          refine r_iinc (v := v5 + 1) (lv' := [(5, .int (v5 + 1)), (4, .int (v4 + (x32 - ((iv M13 b17 (ix v5)) + x26)))), (6, .int ((iv M13 b17 (ix v5)) + x26)), (0, .ref v0), (2, .ref v2), (3, .ref v3)]) h 5 dX1_moved_89 rfl rfl (by decide) rfl ?_
          refine r_goto (tgt := 24) h dX1_moved_92 (by decide) ?_
          exact V.sub [3, 4, 5, 1, 0] rfl hf)
  refine r_aload_n h 0 dX1_moved_0 rfl rfl ?_
  refine r_iload_n h 1 dX1_moved_1 rfl rfl ?_
  obtain ⟨k1, hf⟩ := hf
  refine c1261 hl h dX1_moved_2 k1 hf (Nat.le_of_ble_eq_true rfl) (by decide) (by decide) (by decide) (by decide) (fun b3 M2 hf => ?_) (fun q9 E9 M9 hf => r_out h hq hf)
  refine r_astore_n (lv' := [(2, .ref b3), (0, .ref a0), (1, .int a1)]) h dX1_moved_5 rfl (by decide) rfl ?_
  refine r_aload_n h 1 dX1_moved_6 rfl rfl ?_
  obtain ⟨k4, hf⟩ := hf
  obtain ⟨b5, e6, hf⟩ := hf
  refine g577 h dX1_moved_7 k4 e6 ?_
  refine r_aload_n h 0 dX1_moved_10 rfl rfl ?_
  obtain ⟨k7, hf⟩ := hf
  refine c649 hl h dX1_moved_11 k7 hf (Nat.le_of_ble_eq_true rfl) (by decide) (by decide) (fun b9 M8 hf => ?_)
  refine r_astore_n (lv' := [(3, .ref b9), (2, .ref b3), (0, .ref a0), (1, .int a1)]) h dX1_moved_14 rfl (by decide) rfl ?_
  refine r_iconst (v := 0) h dX1_moved_15 (by decide) ?_
  refine r_istore (lv' := [(4, .int 0), (3, .ref b9), (2, .ref b3), (0, .ref a0), (1, .int a1)]) h dX1_moved_16 (by decide) rfl ?_
  refine r_aload_n h 2 dX1_moved_18 rfl rfl ?_
  obtain ⟨k10, hf⟩ := hf
  refine g293 h dX1_moved_19 k10 ?_
  refine r_istore (lv' := [(5, .int (iv M8 b3 4)), (4, .int 0), (3, .ref b9), (2, .ref b3), (0, .ref a0), (1, .int a1)]) h dX1_moved_22 (by decide) rfl ?_
  exact V.sub [4, 3, 2, 1, 0] rfl hf
theorem c1409 {l : Launch} {G : gG} {X : gX} {cc : ByteArray} {nL F L bc bs pc : Nat} {M : gM} {lv : List (Nat × Value)} {rest : List Value} {a0 : Nat} {a1 : Int32} {K : Int32 → gM → Prop} {KX : Addr → String → gM → Prop} (hl : l.stackTraces = false) (h : hX l G X cc nL "GlacierMailLaw" F L) (d : decode cc pc = .ok (.invokevirtual 75, 3)) (hk : kd M a0 = some (.inl 1)) (hf : f_X1_moved a0 a1 M K KX) (hst : (rest.map fun v => v.category).sum ≤ 8) (hF : 30 ≤ F) (hL : 673 ≤ L) (h1 : 1 ≤ bc) (h2 : 6 ≤ bs) (kk : ∀ x M1, K x M1 → V l G X (bc - 1) (bs - 6) M1 (pc + 3) lv (.int x :: rest)) (kx : ∀ q E M1, KX q E M1 → VX l G X (bc - 1) (bs - 6) M1 pc lv q E) : V l G X bc bs M pc lv (.int a1 :: .ref a0 :: rest) := r_callV (n := 1) (As := [.int a1]) h (m_X1_moved hl hf) 1 rfl hk rfl ⟨by decide, by decide, by decide +kernel⟩ d q1409 q1410 q1411 q135 q1412 rfl rfl hst hF hL h1 h2 (kI_go kk) kx
def f_X0_moved (a0 : Nat) (a1 : Int32) (a2 : Nat) (M : gM) (K : Int32 → gM → Prop) : Prop :=
  kd M a0 = some (.inl 1) ∧ f_X1_moved a0 a1 M (fun x3 M2 => inA M2 a2 2 0 ∧ ∀ M5, M5 = sJ M2 a2 (ix 0) (x3.toInt64) → K 0 M5) (fun q9 E9 M9 => (E9 = "java/lang/IndexOutOfBoundsException" ∧ K 1 M9))
set_option maxHeartbeats 4000000 in
theorem m_X0_moved {l : Launch} (hl : l.stackTraces = false) {G : gG} {a0 : Nat} {a1 : Int32} {a2 : Nat} {M : gM} {K : Int32 → gM → Prop} (hf : f_X0_moved a0 a1 a2 M K) : gMet l G yX0_moved (wsW_ yX0_moved cX0_moved 4 (some Jvm.ClassFile.FieldType.int) [(0, 9, 12, 28)]) ({ frames := 30, cells := 1, slots := 6, locals := 673 }) M [.ref a0, .int a1, .ref a2] (kI K) kN := by
  refine gm_ofH hl (ret := (some Jvm.ClassFile.FieldType.int)) rfl (Nat.le_of_ble_eq_true rfl) (fun X h hq => ?_)
  have h : hX l G X cX0_moved 4 "GlacierMailLaw" 30 673 := h
  have hf := hf
  show V l G X 1 6 M 0 [(0, .ref a0), (1, .int a1), (2, .ref a2)] []
  unfold f_X0_moved at hf
  refine r_aload_n h 2 dX0_moved_0 rfl rfl ?_
  refine r_iconst (v := 0) h dX0_moved_1 (by decide) ?_
  refine r_aload_n h 0 dX0_moved_2 rfl rfl ?_
  refine r_iload_n h 1 dX0_moved_3 rfl rfl ?_
  obtain ⟨k1, hf⟩ := hf
  refine c1409 hl h dX0_moved_4 k1 hf (Nat.le_of_ble_eq_true rfl) (by decide) (by decide) (by decide) (by decide) (fun x3 M2 hf => ?_) (fun q9 E9 M9 hf => ?_)
  · skip
    refine r_i2l h dX0_moved_7 ?_
    obtain ⟨j4, hf⟩ := hf
    refine r_lastore h dX0_moved_8 j4 ?_
    refine r_goW (fun M5 eM5 => ?_)
    have hf := hf M5 eM5
    refine r_goto (tgt := 15) h dX0_moved_9 (by decide) ?_
    refine r_iconst (v := 0) h dX0_moved_15 (by decide) ?_
    exact r_ireturn h hq dX0_moved_16 ⟨_, rfl, hf⟩
  · rcases hf with ⟨rfl, hf⟩
    · refine r_catch h hq 0 (E := "java/lang/IndexOutOfBoundsException") (nm := "java/lang/IndexOutOfBoundsException") rfl (fun z hz => nomatch hz) (by decide) (by decide) q1153 (List.mem_of_getElem? (i := 8) rfl) ?_
      refine r_astore_n (lv' := [(3, .ref q9), (0, .ref a0), (1, .int a1), (2, .ref a2)]) h dX0_moved_12 rfl (by decide) rfl ?_
      refine r_iconst (v := 1) h dX0_moved_13 (by decide) ?_
      exact r_ireturn h hq dX0_moved_14 ⟨_, rfl, hf⟩
theorem c1406 {l : Launch} {G : gG} {X : gX} {cc : ByteArray} {nL F L bc bs pc : Nat} {M : gM} {lv : List (Nat × Value)} {rest : List Value} {a0 : Nat} {a1 : Int32} {a2 : Nat} {K : Int32 → gM → Prop} (hl : l.stackTraces = false) (h : hX l G X cc nL "GlacierMailLaw" F L) (d : decode cc pc = .ok (.invokestatic 214, 3)) (hf : f_X0_moved a0 a1 a2 M K) (hst : (rest.map fun v => v.category).sum ≤ 8) (hF : 31 ≤ F) (hL : 696 ≤ L) (h1 : 1 ≤ bc) (h2 : 6 ≤ bs) (kk : ∀ x M1, K x M1 → V l G X (bc - 1) (bs - 6) M1 (pc + 3) lv (.int x :: rest)) : V l G X bc bs M pc lv (.ref a2 :: .int a1 :: .ref a0 :: rest) := r_callSH (n := 3) (As := [.ref a0, .int a1, .ref a2]) h (m_X0_moved hl hf) ⟨by decide, by decide, by decide +kernel⟩ d q1406 q1407 q134 q1408 rfl rfl hst hF hL h1 h2 (kI_go kk) kN_go
def f_X1_passes_2 (a0 : Nat) (M : gM) (K : Int32 → gM → Prop) : Prop :=
  ∀ P67 : Nat → Int32 → gM → Prop,
  (∀ (v0 : Nat) (v2 : Int32) (M : gM), (if 300 ≤ v2 then K 0 M else kd M v0 = some (.inl 1) ∧ ∃ b38, rv M v0 4 = some b38 ∧ kd M b38 = some (.inl 9) ∧ f_X9_isIn b38 v2 M (fun x42 M41 => if x42 = 0 then P67 v0 (v2 + 1) M41 else kd M41 v0 = some (.inl 1) ∧ ∃ b45, rv M41 v0 5 = some b45 ∧ kd M41 b45 = some (.inl 9) ∧ f_X9_isIn b45 v2 M41 (fun x49 M48 => if x49 = 0 then P67 v0 (v2 + 1) M48 else kd M48 v0 = some (.inl 1) ∧ ∃ b52, rv M48 v0 4 = some b52 ∧ kd M48 b52 = some (.inl 9) ∧ ∃ b55, rv M48 b52 0 = some b55 ∧ inA M48 b55 0 v2 ∧ ∃ b58, rv M48 v0 5 = some b58 ∧ kd M48 b58 = some (.inl 9) ∧ ∃ b61, rv M48 b58 0 = some b61 ∧ inA M48 b61 0 v2 ∧ if (iv M48 b55 (ix v2)) ≤ (iv M48 b61 (ix v2)) then P67 v0 (v2 + 1) M48 else K 1 M48))) → P67 v0 v2 M) →
  kd M a0 = some (.inl 1) ∧ ∃ b2, rv M a0 4 = some b2 ∧ kd M b2 = some (.inl 9) ∧ ∃ b5, rv M a0 5 = some b5 ∧ kd M b5 = some (.inl 9) ∧ ∀ x8, x8 = (if (iv M b2 2) < (iv M b5 2) then (iv M b5 2) else (iv M b2 2)) → ∃ b9, rv M a0 4 = some b9 ∧ kd M b9 = some (.inl 9) ∧ f_X9_isIn b9 x8 M (fun x13 M12 => if x13 = 0 then K 0 M12 else kd M12 a0 = some (.inl 1) ∧ ∃ b16, rv M12 a0 5 = some b16 ∧ kd M12 b16 = some (.inl 9) ∧ f_X9_isIn b16 x8 M12 (fun x20 M19 => if x20 = 0 then K 0 M19 else kd M19 a0 = some (.inl 1) ∧ ∃ b23, rv M19 a0 4 = some b23 ∧ kd M19 b23 = some (.inl 9) ∧ ∃ b26, rv M19 b23 0 = some b26 ∧ inA M19 b26 0 x8 ∧ ∃ b29, rv M19 a0 5 = some b29 ∧ kd M19 b29 = some (.inl 9) ∧ ∃ b32, rv M19 b29 0 = some b32 ∧ inA M19 b32 0 x8 ∧ if (iv M19 b26 (ix x8)) < (iv M19 b32 (ix x8)) then P67 a0 (x8 + 1) M19 else K 0 M19))
set_option maxHeartbeats 4000000 in
theorem m_X1_passes_2 {l : Launch} (hl : l.stackTraces = false) {G : gG} {a0 : Nat} {M : gM} {K : Int32 → gM → Prop} (hf : f_X1_passes_2 a0 M K) : gMet l G yX1_passes_2 (ws_ yX1_passes_2 cX1_passes_2 3 (some Jvm.ClassFile.FieldType.boolean)) ({ frames := 1, cells := 0, slots := 0, locals := 21 }) M [.ref a0] (kI K) kN := by
  refine gm_of hl (ret := (some Jvm.ClassFile.FieldType.boolean)) rfl (Nat.le_of_ble_eq_true rfl) (fun X h hq => ?_)
  have h : hX l G X cX1_passes_2 3 "GlacierMail" 1 21 := h
  have hf := hf
  show V l G X 0 0 M 0 [(0, .ref a0)] []
  have hf := hf
    (fun v0 v2 M => V l G X 0 0 M 67 [(0, .ref v0), (2, .int v2)] [])
    (by
      intro v0 v2 M hf
      show V l G X 0 0 M 67 [(0, .ref v0), (2, .int v2)] []
      refine r_iload_n h 1 dX1_passes_2_67 rfl rfl ?_
      refine r_sipush (v := 300) h dX1_passes_2_68 (by decide) ?_
      refine r_icmp_ge (tgt := 125) h dX1_passes_2_71 (by decide) (fun c36 => ?_) (fun c36 => ?_)
      · have hf := ite_t c36 hf
        refine r_iconst (v := 0) h dX1_passes_2_125 (by decide) ?_
        exact r_zreturn h hq dX1_passes_2_126 (by decide) ⟨_, rfl, hf⟩
      · have hf := ite_f c36 hf
        refine r_aload_n h 0 dX1_passes_2_74 rfl rfl ?_
        obtain ⟨k37, hf⟩ := hf
        obtain ⟨b38, e39, hf⟩ := hf
        refine g577 h dX1_passes_2_75 k37 e39 ?_
        refine r_iload_n h 1 dX1_passes_2_78 rfl rfl ?_
        obtain ⟨k40, hf⟩ := hf
        refine c815 hl h dX1_passes_2_79 k40 hf (Nat.le_of_ble_eq_true rfl) (by decide) (by decide) (fun x42 M41 hf => ?_)
        refine r_if_eq (tgt := 119) h dX1_passes_2_82 (by decide) (fun c43 => ?_) (fun c43 => ?_)
        · have hf := ite_t c43 hf
          refine r_iinc (v := v2 + 1) (lv' := [(2, .int (v2 + 1)), (0, .ref v0)]) h 1 dX1_passes_2_119 rfl rfl (by decide) rfl ?_
          refine r_goto (tgt := 67) h dX1_passes_2_122 (by decide) ?_
          exact V.sub [1, 0] rfl hf
        · have hf := ite_f c43 hf
          refine r_aload_n h 0 dX1_passes_2_85 rfl rfl ?_
          obtain ⟨k44, hf⟩ := hf
          obtain ⟨b45, e46, hf⟩ := hf
          refine g578 h dX1_passes_2_86 k44 e46 ?_
          refine r_iload_n h 1 dX1_passes_2_89 rfl rfl ?_
          obtain ⟨k47, hf⟩ := hf
          refine c815 hl h dX1_passes_2_90 k47 hf (Nat.le_of_ble_eq_true rfl) (by decide) (by decide) (fun x49 M48 hf => ?_)
          refine r_if_eq (tgt := 119) h dX1_passes_2_93 (by decide) (fun c50 => ?_) (fun c50 => ?_)
          · have hf := ite_t c50 hf
            refine r_iinc (v := v2 + 1) (lv' := [(2, .int (v2 + 1)), (0, .ref v0)]) h 1 dX1_passes_2_119 rfl rfl (by decide) rfl ?_
            refine r_goto (tgt := 67) h dX1_passes_2_122 (by decide) ?_
            exact V.sub [1, 0] rfl hf
          · have hf := ite_f c50 hf
            refine r_aload_n h 0 dX1_passes_2_96 rfl rfl ?_
            obtain ⟨k51, hf⟩ := hf
            obtain ⟨b52, e53, hf⟩ := hf
            refine g577 h dX1_passes_2_97 k51 e53 ?_
            obtain ⟨k54, hf⟩ := hf
            obtain ⟨b55, e56, hf⟩ := hf
            refine g553 h dX1_passes_2_100 k54 e56 ?_
            refine r_iload_n h 1 dX1_passes_2_103 rfl rfl ?_
            obtain ⟨j57, hf⟩ := hf
            refine r_iaload h dX1_passes_2_104 j57 ?_
            refine r_aload_n h 0 dX1_passes_2_105 rfl rfl ?_
            obtain ⟨b58, e59, hf⟩ := hf
            refine g578 h dX1_passes_2_106 k51 e59 ?_
            obtain ⟨k60, hf⟩ := hf
            obtain ⟨b61, e62, hf⟩ := hf
            refine g553 h dX1_passes_2_109 k60 e62 ?_
            refine r_iload_n h 1 dX1_passes_2_112 rfl rfl ?_
            obtain ⟨j63, hf⟩ := hf
            refine r_iaload h dX1_passes_2_113 j63 ?_
            refine r_icmp_le (tgt := 119) h dX1_passes_2_114 (by decide) (fun c64 => ?_) (fun c64 => ?_)
            · have hf := ite_t c64 hf
              refine r_iinc (v := v2 + 1) (lv' := [(2, .int (v2 + 1)), (0, .ref v0)]) h 1 dX1_passes_2_119 rfl rfl (by decide) rfl ?_
              refine r_goto (tgt := 67) h dX1_passes_2_122 (by decide) ?_
              exact V.sub [1, 0] rfl hf
            · have hf := ite_f c64 hf
              refine r_iconst (v := 1) h dX1_passes_2_117 (by decide) ?_
              exact r_zreturn h hq dX1_passes_2_118 (by decide) ⟨_, rfl, hf⟩)
  refine r_aload_n h 0 dX1_passes_2_0 rfl rfl ?_
  obtain ⟨k1, hf⟩ := hf
  obtain ⟨b2, e3, hf⟩ := hf
  refine g577 h dX1_passes_2_1 k1 e3 ?_
  obtain ⟨k4, hf⟩ := hf
  refine g557 h dX1_passes_2_4 k4 ?_
  refine r_aload_n h 0 dX1_passes_2_7 rfl rfl ?_
  obtain ⟨b5, e6, hf⟩ := hf
  refine g578 h dX1_passes_2_8 k1 e6 ?_
  obtain ⟨k7, hf⟩ := hf
  refine g557 h dX1_passes_2_11 k7 ?_
  refine r_mmax h q1426 q732 q165 q733 dX1_passes_2_14 (by decide) (by decide) (Nat.le_of_ble_eq_true rfl) ?_
  refine r_nam (fun x8 ex8 => ?_)
  have hf := hf x8 ex8
  refine r_istore_n (lv' := [(1, .int x8), (0, .ref a0)]) h dX1_passes_2_17 rfl (by decide) rfl ?_
  refine r_aload_n h 1 dX1_passes_2_18 rfl rfl ?_
  obtain ⟨b9, e10, hf⟩ := hf
  refine g577 h dX1_passes_2_19 k1 e10 ?_
  refine r_iload_n h 0 dX1_passes_2_22 rfl rfl ?_
  obtain ⟨k11, hf⟩ := hf
  refine c815 hl h dX1_passes_2_23 k11 hf (Nat.le_of_ble_eq_true rfl) (by decide) (by decide) (fun x13 M12 hf => ?_)
  refine r_if_eq (tgt := 61) h dX1_passes_2_26 (by decide) (fun c14 => ?_) (fun c14 => ?_)
  · have hf := ite_t c14 hf
    refine r_iconst (v := 0) h dX1_passes_2_61 (by decide) ?_
    exact r_zreturn h hq dX1_passes_2_62 (by decide) ⟨_, rfl, hf⟩
  · have hf := ite_f c14 hf
    refine r_aload_n h 1 dX1_passes_2_29 rfl rfl ?_
    obtain ⟨k15, hf⟩ := hf
    obtain ⟨b16, e17, hf⟩ := hf
    refine g578 h dX1_passes_2_30 k15 e17 ?_
    refine r_iload_n h 0 dX1_passes_2_33 rfl rfl ?_
    obtain ⟨k18, hf⟩ := hf
    refine c815 hl h dX1_passes_2_34 k18 hf (Nat.le_of_ble_eq_true rfl) (by decide) (by decide) (fun x20 M19 hf => ?_)
    refine r_if_eq (tgt := 61) h dX1_passes_2_37 (by decide) (fun c21 => ?_) (fun c21 => ?_)
    · have hf := ite_t c21 hf
      refine r_iconst (v := 0) h dX1_passes_2_61 (by decide) ?_
      exact r_zreturn h hq dX1_passes_2_62 (by decide) ⟨_, rfl, hf⟩
    · have hf := ite_f c21 hf
      refine r_aload_n h 1 dX1_passes_2_40 rfl rfl ?_
      obtain ⟨k22, hf⟩ := hf
      obtain ⟨b23, e24, hf⟩ := hf
      refine g577 h dX1_passes_2_41 k22 e24 ?_
      obtain ⟨k25, hf⟩ := hf
      obtain ⟨b26, e27, hf⟩ := hf
      refine g553 h dX1_passes_2_44 k25 e27 ?_
      refine r_iload_n h 0 dX1_passes_2_47 rfl rfl ?_
      obtain ⟨j28, hf⟩ := hf
      refine r_iaload h dX1_passes_2_48 j28 ?_
      refine r_aload_n h 1 dX1_passes_2_49 rfl rfl ?_
      obtain ⟨b29, e30, hf⟩ := hf
      refine g578 h dX1_passes_2_50 k22 e30 ?_
      obtain ⟨k31, hf⟩ := hf
      obtain ⟨b32, e33, hf⟩ := hf
      refine g553 h dX1_passes_2_53 k31 e33 ?_
      refine r_iload_n h 0 dX1_passes_2_56 rfl rfl ?_
      obtain ⟨j34, hf⟩ := hf
      refine r_iaload h dX1_passes_2_57 j34 ?_
      refine r_icmp_lt (tgt := 63) h dX1_passes_2_58 (by decide) (fun c35 => ?_) (fun c35 => ?_)
      · have hf := ite_t c35 hf
        refine r_iload_n h 0 dX1_passes_2_63 rfl rfl ?_
        refine r_iconst (v := 1) h dX1_passes_2_64 (by decide) ?_
        refine r_iadd h dX1_passes_2_65 ?_
        refine r_istore_n (lv' := [(2, .int (x8 + 1)), (1, .int x8), (0, .ref a0)]) h dX1_passes_2_66 rfl (by decide) rfl ?_
        exact V.sub [2, 0] rfl hf
      · have hf := ite_f c35 hf
        refine r_iconst (v := 0) h dX1_passes_2_61 (by decide) ?_
        exact r_zreturn h hq dX1_passes_2_62 (by decide) ⟨_, rfl, hf⟩
theorem c1422 {l : Launch} {G : gG} {X : gX} {cc : ByteArray} {nL F L bc bs pc : Nat} {M : gM} {lv : List (Nat × Value)} {rest : List Value} {a0 : Nat} {K : Int32 → gM → Prop} (hl : l.stackTraces = false) (h : hX l G X cc nL "GlacierMail" F L) (d : decode cc pc = .ok (.invokevirtual 342, 3)) (hk : kd M a0 = some (.inl 1)) (hf : f_X1_passes_2 a0 M K) (hst : (rest.map fun v => v.category).sum ≤ 8) (hF : 2 ≤ F) (hL : 43 ≤ L) (kk : ∀ x M1, K x M1 → V l G X bc bs M1 (pc + 3) lv (.int x :: rest)) : V l G X bc bs M pc lv (.ref a0 :: rest) := r_callV (n := 0) (As := []) h (m_X1_passes_2 hl hf) 1 rfl hk rfl ⟨by decide, by decide, by decide +kernel⟩ d q1422 q1424 qs41 q135 q1425 rfl rfl hst hF hL (Nat.zero_le _) (Nat.zero_le _) (kI_go kk) kN_go
def f_X1_passes (a0 : Nat) (a1 : Int32) (M : gM) (K : Int32 → gM → Prop) (KX : Addr → String → gM → Prop) : Prop :=
  ∀ P21 : Nat → Int32 → Nat → Int32 → Int32 → gM → Prop,
  (∀ (v0 : Nat) (v1 : Int32) (v2 : Nat) (v4 : Int32) (v5 : Int32) (M : gM), (kd M v0 = some (.inl 1) ∧ ∃ b11, rv M v0 1 = some b11 ∧ kd M b11 = some (.inl 3) ∧ if (iv M b11 14) ≤ v5 then K v4 M else if v5 = v1 then P21 v0 v1 v2 v4 (v5 + 1) M else ∃ b16, rv M v0 1 = some b16 ∧ kd M b16 = some (.inl 3) ∧ ∃ b19, rv M b16 3 = some b19 ∧ inA M b19 8 v5 ∧ ∃ b22, rv M b19 (ix v5) = some b22 ∧ kd M b22 = some (.inl 7) ∧ kd M v2 = some (.inl 7) ∧ if (iv M b22 2) = (iv M v2 2) then ∃ b27, rv M v0 5 = some b27 ∧ ∃ b29, rv M v0 1 = some b29 ∧ kd M b29 = some (.inl 3) ∧ ∃ b32, rv M b29 3 = some b32 ∧ inA M b32 8 v5 ∧ ∃ b35, rv M b32 (ix v5) = some b35 ∧ kd M b27 = some (.inl 9) ∧ f_X9_of b27 b35 M (fun b39 M38 => kd M38 v0 = some (.inl 1) ∧ f_X1_passes_2 v0 M38 (fun x42 M41 => if x42 = 0 then P21 v0 v1 v2 (v4 + 0) (v5 + 1) M41 else P21 v0 v1 v2 (v4 + 1) (v5 + 1) M41)) else P21 v0 v1 v2 v4 (v5 + 1) M) → P21 v0 v1 v2 v4 v5 M) →
  kd M a0 = some (.inl 1) ∧ f_X1_letterAt a0 a1 M (fun b3 M2 => kd M2 a0 = some (.inl 1) ∧ ∃ b5, rv M2 a0 4 = some b5 ∧ kd M2 b5 = some (.inl 9) ∧ f_X9_of b5 b3 M2 (fun b9 M8 => P21 a0 a1 b3 0 0 M8)) KX
set_option maxHeartbeats 4000000 in
theorem m_X1_passes {l : Launch} (hl : l.stackTraces = false) {G : gG} {a0 : Nat} {a1 : Int32} {M : gM} {K : Int32 → gM → Prop} {KX : Addr → String → gM → Prop} (hf : f_X1_passes a0 a1 M K KX) : gMet l G yX1_passes (ws_ yX1_passes cX1_passes 7 (some Jvm.ClassFile.FieldType.int)) ({ frames := 29, cells := 1, slots := 6, locals := 647 }) M [.ref a0, .int a1] (kI K) KX := by
  refine gm_of hl (ret := (some Jvm.ClassFile.FieldType.int)) rfl (Nat.le_of_ble_eq_true rfl) (fun X h hq => ?_)
  have h : hX l G X cX1_passes 7 "GlacierMail" 29 647 := h
  have hf := hf
  show V l G X 1 6 M 0 [(0, .ref a0), (1, .int a1)] []
  have hf := hf
    (fun v0 v1 v2 v4 v5 M => V l G X 0 0 M 21 [(0, .ref v0), (1, .int v1), (2, .ref v2), (4, .int v4), (5, .int v5)] [])
    (by
      intro v0 v1 v2 v4 v5 M hf
      show V l G X 0 0 M 21 [(0, .ref v0), (1, .int v1), (2, .ref v2), (4, .int v4), (5, .int v5)] []
      refine r_iload h 4 dX1_passes_21 rfl ?_
      refine r_aload_n h 0 dX1_passes_23 rfl rfl ?_
      obtain ⟨k10, hf⟩ := hf
      obtain ⟨b11, e12, hf⟩ := hf
      refine g573 h dX1_passes_24 k10 e12 ?_
      obtain ⟨k13, hf⟩ := hf
      refine g358 h dX1_passes_27 k13 ?_
      refine r_icmp_ge (tgt := 104) h dX1_passes_30 (by decide) (fun c14 => ?_) (fun c14 => ?_)
      · have hf := ite_t c14 hf
        refine r_iload h 3 dX1_passes_104 rfl ?_
        exact r_ireturn h hq dX1_passes_106 ⟨_, rfl, hf⟩
      · have hf := ite_f c14 hf
        refine r_iload h 4 dX1_passes_33 rfl ?_
        refine r_iload_n h 1 dX1_passes_35 rfl rfl ?_
        refine r_icmp_eq (tgt := 98) h dX1_passes_36 (by decide) (fun c15 => ?_) (fun c15 => ?_)
        · have hf := ite_t c15 hf
          refine r_iinc (v := v5 + 1) (lv' := [(5, .int (v5 + 1)), (0, .ref v0), (1, .int v1), (2, .ref v2), (4, .int v4)]) h 4 dX1_passes_98 rfl rfl (by decide) rfl ?_
          refine r_goto (tgt := 21) h dX1_passes_101 (by decide) ?_
          exact V.sub [1, 2, 3, 4, 0] rfl hf
        · have hf := ite_f c15 hf
          refine r_aload_n h 0 dX1_passes_39 rfl rfl ?_
          obtain ⟨b16, e17, hf⟩ := hf
          refine g573 h dX1_passes_40 k10 e17 ?_
          obtain ⟨k18, hf⟩ := hf
          obtain ⟨b19, e20, hf⟩ := hf
          refine g329 h dX1_passes_43 k18 e20 ?_
          refine r_iload h 4 dX1_passes_46 rfl ?_
          obtain ⟨j21, b22, e23, hf⟩ := hf
          refine r_aaload h 8 (by decide) (by decide) dX1_passes_48 j21 (v := .ref b22) (by rw [e23]; rfl) ?_
          obtain ⟨k24, hf⟩ := hf
          refine g286 h dX1_passes_49 k24 ?_
          refine r_aload_n h 2 dX1_passes_52 rfl rfl ?_
          obtain ⟨k25, hf⟩ := hf
          refine g286 h dX1_passes_53 k25 ?_
          refine r_icmp_eq (tgt := 62) h dX1_passes_56 (by decide) (fun c26 => ?_) (fun c26 => ?_)
          · have hf := ite_t c26 hf
            refine r_aload_n h 0 dX1_passes_62 rfl rfl ?_
            obtain ⟨b27, e28, hf⟩ := hf
            refine g578 h dX1_passes_63 k10 e28 ?_
            refine r_aload_n h 0 dX1_passes_66 rfl rfl ?_
            obtain ⟨b29, e30, hf⟩ := hf
            refine g573 h dX1_passes_67 k10 e30 ?_
            obtain ⟨k31, hf⟩ := hf
            obtain ⟨b32, e33, hf⟩ := hf
            refine g329 h dX1_passes_70 k31 e33 ?_
            refine r_iload h 4 dX1_passes_73 rfl ?_
            obtain ⟨j34, b35, e36, hf⟩ := hf
            refine r_aaload h 8 (by decide) (by decide) dX1_passes_75 j34 (v := .ref b35) (by rw [e36]; rfl) ?_
            obtain ⟨k37, hf⟩ := hf
            refine c649 hl h dX1_passes_76 k37 hf (Nat.le_of_ble_eq_true rfl) (by decide) (by decide) (fun b39 M38 hf => ?_)
            refine r_astore (lv' := [(6, .ref b39), (0, .ref v0), (1, .int v1), (2, .ref v2), (4, .int v4), (5, .int v5)]) h dX1_passes_79 (by decide) rfl ?_
            refine r_iload h 4 dX1_passes_81 rfl ?_
            refine r_aload_n h 1 dX1_passes_83 rfl rfl ?_
            obtain ⟨k40, hf⟩ := hf
            refine c1422 hl h dX1_passes_84 k40 hf (Nat.le_of_ble_eq_true rfl) (by decide) (by decide) (fun x42 M41 hf => ?_)
            refine r_if_eq (tgt := 94) h dX1_passes_87 (by decide) (fun c43 => ?_) (fun c43 => ?_)
            · have hf := ite_t c43 hf
              refine r_iconst (v := 0) h dX1_passes_94 (by decide) ?_
              refine r_iadd h dX1_passes_95 ?_
              refine r_istore (lv' := [(4, .int (v4 + 0)), (6, .ref b39), (0, .ref v0), (1, .int v1), (2, .ref v2), (5, .int v5)]) h dX1_passes_96 (by decide) rfl ?_
              refine r_iinc (v := v5 + 1) (lv' := [(5, .int (v5 + 1)), (4, .int (v4 + 0)), (6, .ref b39), (0, .ref v0), (1, .int v1), (2, .ref v2)]) h 5 dX1_passes_98 rfl rfl (by decide) rfl ?_
              refine r_goto (tgt := 21) h dX1_passes_101 (by decide) ?_
              exact V.sub [3, 4, 5, 1, 0] rfl hf
            · have hf := ite_f c43 hf
              refine r_iconst (v := 1) h dX1_passes_90 (by decide) ?_
              refine r_goto (tgt := 95) h dX1_passes_91 (by decide) ?_
              refine r_iadd h dX1_passes_95 ?_
              refine r_istore (lv' := [(4, .int (v4 + 1)), (6, .ref b39), (0, .ref v0), (1, .int v1), (2, .ref v2), (5, .int v5)]) h dX1_passes_96 (by decide) rfl ?_
              refine r_iinc (v := v5 + 1) (lv' := [(5, .int (v5 + 1)), (4, .int (v4 + 1)), (6, .ref b39), (0, .ref v0), (1, .int v1), (2, .ref v2)]) h 5 dX1_passes_98 rfl rfl (by decide) rfl ?_
              refine r_goto (tgt := 21) h dX1_passes_101 (by decide) ?_
              exact V.sub [3, 4, 5, 1, 0] rfl hf
          · have hf := ite_f c26 hf
            refine r_goto (tgt := 98) h dX1_passes_59 (by decide) ?_
            refine r_iinc (v := v5 + 1) (lv' := [(5, .int (v5 + 1)), (0, .ref v0), (1, .int v1), (2, .ref v2), (4, .int v4)]) h 4 dX1_passes_98 rfl rfl (by decide) rfl ?_
            refine r_goto (tgt := 21) h dX1_passes_101 (by decide) ?_
            exact V.sub [1, 2, 3, 4, 0] rfl hf)
  refine r_aload_n h 0 dX1_passes_0 rfl rfl ?_
  refine r_iload_n h 1 dX1_passes_1 rfl rfl ?_
  obtain ⟨k1, hf⟩ := hf
  refine c1261 hl h dX1_passes_2 k1 hf (Nat.le_of_ble_eq_true rfl) (by decide) (by decide) (by decide) (by decide) (fun b3 M2 hf => ?_) (fun q9 E9 M9 hf => r_out h hq hf)
  refine r_astore_n (lv' := [(2, .ref b3), (0, .ref a0), (1, .int a1)]) h dX1_passes_5 rfl (by decide) rfl ?_
  refine r_aload_n h 1 dX1_passes_6 rfl rfl ?_
  obtain ⟨k4, hf⟩ := hf
  obtain ⟨b5, e6, hf⟩ := hf
  refine g577 h dX1_passes_7 k4 e6 ?_
  refine r_aload_n h 0 dX1_passes_10 rfl rfl ?_
  obtain ⟨k7, hf⟩ := hf
  refine c649 hl h dX1_passes_11 k7 hf (Nat.le_of_ble_eq_true rfl) (by decide) (by decide) (fun b9 M8 hf => ?_)
  refine r_astore_n (lv' := [(3, .ref b9), (2, .ref b3), (0, .ref a0), (1, .int a1)]) h dX1_passes_14 rfl (by decide) rfl ?_
  refine r_iconst (v := 0) h dX1_passes_15 (by decide) ?_
  refine r_istore (lv' := [(4, .int 0), (3, .ref b9), (2, .ref b3), (0, .ref a0), (1, .int a1)]) h dX1_passes_16 (by decide) rfl ?_
  refine r_iconst (v := 0) h dX1_passes_18 (by decide) ?_
  refine r_istore (lv' := [(5, .int 0), (4, .int 0), (3, .ref b9), (2, .ref b3), (0, .ref a0), (1, .int a1)]) h dX1_passes_19 (by decide) rfl ?_
  exact V.sub [4, 5, 3, 1, 0] rfl hf
theorem c1418 {l : Launch} {G : gG} {X : gX} {cc : ByteArray} {nL F L bc bs pc : Nat} {M : gM} {lv : List (Nat × Value)} {rest : List Value} {a0 : Nat} {a1 : Int32} {K : Int32 → gM → Prop} {KX : Addr → String → gM → Prop} (hl : l.stackTraces = false) (h : hX l G X cc nL "GlacierMailLaw" F L) (d : decode cc pc = .ok (.invokevirtual 78, 3)) (hk : kd M a0 = some (.inl 1)) (hf : f_X1_passes a0 a1 M K KX) (hst : (rest.map fun v => v.category).sum ≤ 8) (hF : 30 ≤ F) (hL : 673 ≤ L) (h1 : 1 ≤ bc) (h2 : 6 ≤ bs) (kk : ∀ x M1, K x M1 → V l G X (bc - 1) (bs - 6) M1 (pc + 3) lv (.int x :: rest)) (kx : ∀ q E M1, KX q E M1 → VX l G X (bc - 1) (bs - 6) M1 pc lv q E) : V l G X bc bs M pc lv (.int a1 :: .ref a0 :: rest) := r_callV (n := 1) (As := [.int a1]) h (m_X1_passes hl hf) 1 rfl hk rfl ⟨by decide, by decide, by decide +kernel⟩ d q1418 q1419 q1420 q135 q1421 rfl rfl hst hF hL h1 h2 (kI_go kk) kx
def f_X0_passes (a0 : Nat) (a1 : Int32) (a2 : Nat) (M : gM) (K : Int32 → gM → Prop) : Prop :=
  kd M a0 = some (.inl 1) ∧ f_X1_passes a0 a1 M (fun x3 M2 => inA M2 a2 2 0 ∧ ∀ M5, M5 = sJ M2 a2 (ix 0) (x3.toInt64) → K 0 M5) (fun q9 E9 M9 => (E9 = "java/lang/IndexOutOfBoundsException" ∧ K 1 M9))
set_option maxHeartbeats 4000000 in
theorem m_X0_passes {l : Launch} (hl : l.stackTraces = false) {G : gG} {a0 : Nat} {a1 : Int32} {a2 : Nat} {M : gM} {K : Int32 → gM → Prop} (hf : f_X0_passes a0 a1 a2 M K) : gMet l G yX0_passes (wsW_ yX0_passes cX0_passes 4 (some Jvm.ClassFile.FieldType.int) [(0, 9, 12, 28)]) ({ frames := 30, cells := 1, slots := 6, locals := 673 }) M [.ref a0, .int a1, .ref a2] (kI K) kN := by
  refine gm_ofH hl (ret := (some Jvm.ClassFile.FieldType.int)) rfl (Nat.le_of_ble_eq_true rfl) (fun X h hq => ?_)
  have h : hX l G X cX0_passes 4 "GlacierMailLaw" 30 673 := h
  have hf := hf
  show V l G X 1 6 M 0 [(0, .ref a0), (1, .int a1), (2, .ref a2)] []
  unfold f_X0_passes at hf
  refine r_aload_n h 2 dX0_passes_0 rfl rfl ?_
  refine r_iconst (v := 0) h dX0_passes_1 (by decide) ?_
  refine r_aload_n h 0 dX0_passes_2 rfl rfl ?_
  refine r_iload_n h 1 dX0_passes_3 rfl rfl ?_
  obtain ⟨k1, hf⟩ := hf
  refine c1418 hl h dX0_passes_4 k1 hf (Nat.le_of_ble_eq_true rfl) (by decide) (by decide) (by decide) (by decide) (fun x3 M2 hf => ?_) (fun q9 E9 M9 hf => ?_)
  · skip
    refine r_i2l h dX0_passes_7 ?_
    obtain ⟨j4, hf⟩ := hf
    refine r_lastore h dX0_passes_8 j4 ?_
    refine r_goW (fun M5 eM5 => ?_)
    have hf := hf M5 eM5
    refine r_goto (tgt := 15) h dX0_passes_9 (by decide) ?_
    refine r_iconst (v := 0) h dX0_passes_15 (by decide) ?_
    exact r_ireturn h hq dX0_passes_16 ⟨_, rfl, hf⟩
  · rcases hf with ⟨rfl, hf⟩
    · refine r_catch h hq 0 (E := "java/lang/IndexOutOfBoundsException") (nm := "java/lang/IndexOutOfBoundsException") rfl (fun z hz => nomatch hz) (by decide) (by decide) q1153 (List.mem_of_getElem? (i := 8) rfl) ?_
      refine r_astore_n (lv' := [(3, .ref q9), (0, .ref a0), (1, .int a1), (2, .ref a2)]) h dX0_passes_12 rfl (by decide) rfl ?_
      refine r_iconst (v := 1) h dX0_passes_13 (by decide) ?_
      exact r_ireturn h hq dX0_passes_14 ⟨_, rfl, hf⟩
theorem c1415 {l : Launch} {G : gG} {X : gX} {cc : ByteArray} {nL F L bc bs pc : Nat} {M : gM} {lv : List (Nat × Value)} {rest : List Value} {a0 : Nat} {a1 : Int32} {a2 : Nat} {K : Int32 → gM → Prop} (hl : l.stackTraces = false) (h : hX l G X cc nL "GlacierMailLaw" F L) (d : decode cc pc = .ok (.invokestatic 226, 3)) (hf : f_X0_passes a0 a1 a2 M K) (hst : (rest.map fun v => v.category).sum ≤ 8) (hF : 31 ≤ F) (hL : 696 ≤ L) (h1 : 1 ≤ bc) (h2 : 6 ≤ bs) (kk : ∀ x M1, K x M1 → V l G X (bc - 1) (bs - 6) M1 (pc + 3) lv (.int x :: rest)) : V l G X bc bs M pc lv (.ref a2 :: .int a1 :: .ref a0 :: rest) := r_callSH (n := 3) (As := [.ref a0, .int a1, .ref a2]) h (m_X0_passes hl hf) ⟨by decide, by decide, by decide +kernel⟩ d q1415 q1416 q134 q1417 rfl rfl hst hF hL h1 h2 (kI_go kk) kN_go
def f_X1_isFound (a0 : Nat) (a1 : Int32) (a2 : Int32) (a3 : Int32) (M : gM) (K : gM → Prop) (KX : Addr → String → gM → Prop) : Prop :=
  kd M a0 = some (.inl 1) ∧ f_X1_isLane a0 a1 M (fun M2 => f_X1_isYear a2 M2 (fun M3 => f_X1_isIn a3 0 99 M3 (fun x5 M4 => f_X1_must x5 M4 (fun M6 => K M6) KX)) KX) KX
set_option maxHeartbeats 4000000 in
theorem m_X1_isFound {l : Launch} (hl : l.stackTraces = false) {G : gG} {a0 : Nat} {a1 : Int32} {a2 : Int32} {a3 : Int32} {M : gM} {K : gM → Prop} {KX : Addr → String → gM → Prop} (hf : f_X1_isFound a0 a1 a2 a3 M K KX) : gMet l G yX1_isFound (ws_ yX1_isFound cX1_isFound 4 none) ({ frames := 14, cells := 3, slots := 18, locals := 241 }) M [.ref a0, .int a1, .int a2, .int a3] (kV K) KX := by
  refine gm_of hl (ret := none) rfl (Nat.le_of_ble_eq_true rfl) (fun X h hq => ?_)
  have h : hX l G X cX1_isFound 4 "GlacierMail" 14 241 := h
  have hf := hf
  show V l G X 3 18 M 0 [(0, .ref a0), (1, .int a1), (2, .int a2), (3, .int a3)] []
  unfold f_X1_isFound at hf
  refine r_aload_n h 0 dX1_isFound_0 rfl rfl ?_
  refine r_iload_n h 1 dX1_isFound_1 rfl rfl ?_
  obtain ⟨k1, hf⟩ := hf
  refine c1189 hl h dX1_isFound_2 k1 hf (Nat.le_of_ble_eq_true rfl) (by decide) (by decide) (by decide) (by decide) (fun M2 hf => ?_) (fun q9 E9 M9 hf => r_out h hq hf)
  refine r_iload_n h 2 dX1_isFound_5 rfl rfl ?_
  refine c1144 hl h dX1_isFound_6 hf (Nat.le_of_ble_eq_true rfl) (by decide) (by decide) (by decide) (by decide) (fun M3 hf => ?_) (fun q9 E9 M9 hf => r_out h hq hf)
  refine r_iload_n h 3 dX1_isFound_9 rfl rfl ?_
  refine r_iconst (v := 0) h dX1_isFound_10 (by decide) ?_
  refine r_bipush (v := 99) h dX1_isFound_11 (by decide) ?_
  refine c634 hl h dX1_isFound_13 hf (Nat.le_of_ble_eq_true rfl) (by decide) (by decide) (fun x5 M4 hf => ?_)
  refine c1147 hl h dX1_isFound_16 hf (Nat.le_of_ble_eq_true rfl) (by decide) (by decide) (by decide) (by decide) (fun M6 hf => ?_) (fun q9 E9 M9 hf => r_out h hq hf)
  exact r_return h hq dX1_isFound_19 ⟨rfl, hf⟩
theorem c1434 {l : Launch} {G : gG} {X : gX} {cc : ByteArray} {nL F L bc bs pc : Nat} {M : gM} {lv : List (Nat × Value)} {rest : List Value} {a0 : Nat} {a1 : Int32} {a2 : Int32} {a3 : Int32} {K : gM → Prop} {KX : Addr → String → gM → Prop} (hl : l.stackTraces = false) (h : hX l G X cc nL "GlacierMail" F L) (d : decode cc pc = .ok (.invokevirtual 345, 3)) (hk : kd M a0 = some (.inl 1)) (hf : f_X1_isFound a0 a1 a2 a3 M K KX) (hst : (rest.map fun v => v.category).sum ≤ 8) (hF : 15 ≤ F) (hL : 264 ≤ L) (h1 : 3 ≤ bc) (h2 : 18 ≤ bs) (kk : ∀ M1, K M1 → V l G X (bc - 3) (bs - 18) M1 (pc + 3) lv rest) (kx : ∀ q E M1, KX q E M1 → VX l G X (bc - 3) (bs - 18) M1 pc lv q E) : V l G X bc bs M pc lv (.int a3 :: .int a2 :: .int a1 :: .ref a0 :: rest) := r_callV (n := 3) (As := [.int a1, .int a2, .int a3]) h (m_X1_isFound hl hf) 1 rfl hk rfl ⟨by decide, by decide, by decide +kernel⟩ d q1434 q1436 qs42 q135 q1437 rfl rfl hst hF hL h1 h2 (kV_go kk) kx
def f_X1_wroteIn (a0 : Nat) (a1 : Nat) (a2 : Int32) (a3 : Int32) (a4 : Int32) (M : gM) (K : Int32 → gM → Prop) : Prop :=
  ∀ P15 : Nat → Nat → Int32 → Int32 → Int32 → Int32 → gM → Prop,
  (∀ (v0 : Nat) (v1 : Nat) (v2 : Int32) (v3 : Int32) (v4 : Int32) (v5 : Int32) (M : gM), (if v5 < 0 then K (-1) M else kd M v0 = some (.inl 1) ∧ ∃ b5, rv M v0 4 = some b5 ∧ kd M v1 = some (.inl 6) ∧ kd M b5 = some (.inl 9) ∧ f_X9_goes b5 v2 (iv M v1 1) v5 0 M (fun b10 M9 => kd M9 b10 = some (.inl 9) ∧ if (iv M9 b10 3) = v3 then ∃ b13, rv M9 b10 1 = some b13 ∧ inA M9 b13 0 v3 ∧ if (iv M9 b13 (ix v3)) = v4 then K v5 M9 else P15 v0 v1 v2 v3 v4 (v5 + (-1)) M9 else P15 v0 v1 v2 v3 v4 (v5 + (-1)) M9)) → P15 v0 v1 v2 v3 v4 v5 M) →
  kd M a1 = some (.inl 6) ∧ if (iv M a1 0) = a2 then P15 a0 a1 a2 a3 a4 (a3 - 1) M else K (-1) M
set_option maxHeartbeats 4000000 in
theorem m_X1_wroteIn {l : Launch} (hl : l.stackTraces = false) {G : gG} {a0 : Nat} {a1 : Nat} {a2 : Int32} {a3 : Int32} {a4 : Int32} {M : gM} {K : Int32 → gM → Prop} (hf : f_X1_wroteIn a0 a1 a2 a3 a4 M K) : gMet l G yX1_wroteIn (ws_ yX1_wroteIn cX1_wroteIn 7 (some Jvm.ClassFile.FieldType.int)) ({ frames := 28, cells := 0, slots := 0, locals := 626 }) M [.ref a0, .ref a1, .int a2, .int a3, .int a4] (kI K) kN := by
  refine gm_of hl (ret := (some Jvm.ClassFile.FieldType.int)) rfl (Nat.le_of_ble_eq_true rfl) (fun X h hq => ?_)
  have h : hX l G X cX1_wroteIn 7 "GlacierMail" 28 626 := h
  have hf := hf
  show V l G X 0 0 M 0 [(0, .ref a0), (1, .ref a1), (2, .int a2), (3, .int a3), (4, .int a4)] []
  have hf := hf
    (fun v0 v1 v2 v3 v4 v5 M => V l G X 0 0 M 15 [(0, .ref v0), (1, .ref v1), (2, .int v2), (3, .int v3), (4, .int v4), (5, .int v5)] [])
    (by
      intro v0 v1 v2 v3 v4 v5 M hf
      show V l G X 0 0 M 15 [(0, .ref v0), (1, .ref v1), (2, .int v2), (3, .int v3), (4, .int v4), (5, .int v5)] []
      refine r_iload h 5 dX1_wroteIn_15 rfl ?_
      refine r_if_lt (tgt := 67) h dX1_wroteIn_17 (by decide) (fun c3 => ?_) (fun c3 => ?_)
      · have hf := ite_t c3 hf
        refine r_iconst (v := (-1)) h dX1_wroteIn_67 (by decide) ?_
        exact r_ireturn h hq dX1_wroteIn_68 ⟨_, rfl, hf⟩
      · have hf := ite_f c3 hf
        refine r_aload_n h 0 dX1_wroteIn_20 rfl rfl ?_
        obtain ⟨k4, hf⟩ := hf
        obtain ⟨b5, e6, hf⟩ := hf
        refine g577 h dX1_wroteIn_21 k4 e6 ?_
        refine r_iload_n h 2 dX1_wroteIn_24 rfl rfl ?_
        refine r_aload_n h 1 dX1_wroteIn_25 rfl rfl ?_
        obtain ⟨k7, hf⟩ := hf
        refine g263 h dX1_wroteIn_26 k7 ?_
        refine r_iload h 5 dX1_wroteIn_29 rfl ?_
        refine r_iconst (v := 0) h dX1_wroteIn_31 (by decide) ?_
        obtain ⟨k8, hf⟩ := hf
        refine c1380 hl h dX1_wroteIn_32 k8 hf (Nat.le_of_ble_eq_true rfl) (by decide) (by decide) (fun b10 M9 hf => ?_)
        refine r_astore (lv' := [(6, .ref b10), (0, .ref v0), (1, .ref v1), (2, .int v2), (3, .int v3), (4, .int v4), (5, .int v5)]) h dX1_wroteIn_35 (by decide) rfl ?_
        refine r_aload h 0 dX1_wroteIn_37 rfl ?_
        obtain ⟨k11, hf⟩ := hf
        refine g559 h dX1_wroteIn_39 k11 ?_
        refine r_iload_n h 4 dX1_wroteIn_42 rfl rfl ?_
        refine r_icmp_ne (tgt := 61) h dX1_wroteIn_43 (by decide) (fun c12 => ?_) (fun c12 => ?_)
        · have hf := ite_f c12 hf
          refine r_iinc (v := v5 + (-1)) (lv' := [(5, .int (v5 + (-1))), (6, .ref b10), (0, .ref v0), (1, .ref v1), (2, .int v2), (3, .int v3), (4, .int v4)]) h 6 dX1_wroteIn_61 rfl rfl (by decide) rfl ?_
          refine r_goto (tgt := 15) h dX1_wroteIn_64 (by decide) ?_
          exact V.sub [2, 3, 4, 5, 6, 0] rfl hf
        · have hf := ite_t c12 hf
          refine r_aload h 0 dX1_wroteIn_46 rfl ?_
          obtain ⟨b13, e14, hf⟩ := hf
          refine g555 h dX1_wroteIn_48 k11 e14 ?_
          refine r_iload_n h 4 dX1_wroteIn_51 rfl rfl ?_
          obtain ⟨j15, hf⟩ := hf
          refine r_iaload h dX1_wroteIn_52 j15 ?_
          refine r_iload h 5 dX1_wroteIn_53 rfl ?_
          refine r_icmp_ne (tgt := 61) h dX1_wroteIn_55 (by decide) (fun c16 => ?_) (fun c16 => ?_)
          · have hf := ite_f c16 hf
            refine r_iinc (v := v5 + (-1)) (lv' := [(5, .int (v5 + (-1))), (6, .ref b10), (0, .ref v0), (1, .ref v1), (2, .int v2), (3, .int v3), (4, .int v4)]) h 6 dX1_wroteIn_61 rfl rfl (by decide) rfl ?_
            refine r_goto (tgt := 15) h dX1_wroteIn_64 (by decide) ?_
            exact V.sub [2, 3, 4, 5, 6, 0] rfl hf
          · have hf := ite_t c16 hf
            refine r_iload h 6 dX1_wroteIn_58 rfl ?_
            exact r_ireturn h hq dX1_wroteIn_60 ⟨_, rfl, hf⟩)
  refine r_aload_n h 1 dX1_wroteIn_0 rfl rfl ?_
  obtain ⟨k1, hf⟩ := hf
  refine g260 h dX1_wroteIn_1 k1 ?_
  refine r_iload_n h 2 dX1_wroteIn_4 rfl rfl ?_
  refine r_icmp_eq (tgt := 10) h dX1_wroteIn_5 (by decide) (fun c2 => ?_) (fun c2 => ?_)
  · have hf := ite_t c2 hf
    refine r_iload_n h 3 dX1_wroteIn_10 rfl rfl ?_
    refine r_iconst (v := 1) h dX1_wroteIn_11 (by decide) ?_
    refine r_isub h dX1_wroteIn_12 ?_
    refine r_istore (lv' := [(5, .int (a3 - 1)), (0, .ref a0), (1, .ref a1), (2, .int a2), (3, .int a3), (4, .int a4)]) h dX1_wroteIn_13 (by decide) rfl ?_
    exact V.sub [1, 2, 3, 4, 5, 0] rfl hf
  · have hf := ite_f c2 hf
    refine r_iconst (v := (-1)) h dX1_wroteIn_8 (by decide) ?_
    exact r_ireturn h hq dX1_wroteIn_9 ⟨_, rfl, hf⟩
theorem c1438 {l : Launch} {G : gG} {X : gX} {cc : ByteArray} {nL F L bc bs pc : Nat} {M : gM} {lv : List (Nat × Value)} {rest : List Value} {a0 : Nat} {a1 : Nat} {a2 : Int32} {a3 : Int32} {a4 : Int32} {K : Int32 → gM → Prop} (hl : l.stackTraces = false) (h : hX l G X cc nL "GlacierMail" F L) (d : decode cc pc = .ok (.invokevirtual 349, 3)) (hk : kd M a0 = some (.inl 1)) (hf : f_X1_wroteIn a0 a1 a2 a3 a4 M K) (hst : (rest.map fun v => v.category).sum ≤ 8) (hF : 29 ≤ F) (hL : 652 ≤ L) (kk : ∀ x M1, K x M1 → V l G X bc bs M1 (pc + 3) lv (.int x :: rest)) : V l G X bc bs M pc lv (.int a4 :: .int a3 :: .int a2 :: .ref a1 :: .ref a0 :: rest) := r_callV (n := 4) (As := [.ref a1, .int a2, .int a3, .int a4]) h (m_X1_wroteIn hl hf) 1 rfl hk rfl ⟨by decide, by decide, by decide +kernel⟩ d q1438 q1440 qs43 q135 q1441 rfl rfl hst hF hL (Nat.zero_le _) (Nat.zero_le _) (kI_go kk) kN_go
def f_X1_writers (a0 : Nat) (a1 : Int32) (a2 : Int32) (a3 : Int32) (M : gM) (K : Int32 → gM → Prop) (KX : Addr → String → gM → Prop) : Prop :=
  ∀ P13 : Nat → Int32 → Int32 → Int32 → Int32 → Int32 → gM → Prop,
  (∀ (v0 : Nat) (v1 : Int32) (v2 : Int32) (v3 : Int32) (v4 : Int32) (v5 : Int32) (M : gM), (kd M v0 = some (.inl 1) ∧ ∃ b4, rv M v0 1 = some b4 ∧ kd M b4 = some (.inl 3) ∧ if (iv M b4 13) ≤ v5 then K v4 M else ∃ b8, rv M v0 1 = some b8 ∧ kd M b8 = some (.inl 3) ∧ ∃ b11, rv M b8 2 = some b11 ∧ inA M b11 7 v5 ∧ ∃ b14, rv M b11 (ix v5) = some b14 ∧ f_X1_wroteIn v0 b14 v1 v2 v3 M (fun x17 M16 => if x17 = (-1) then P13 v0 v1 v2 v3 (v4 ||| 0) (v5 + 1) M16 else P13 v0 v1 v2 v3 (v4 ||| ((1 : Int32) <<< (v5 &&& 31))) (v5 + 1) M16)) → P13 v0 v1 v2 v3 v4 v5 M) →
  kd M a0 = some (.inl 1) ∧ f_X1_isFound a0 a1 a2 a3 M (fun M2 => P13 a0 a1 a2 a3 0 0 M2) KX
set_option maxHeartbeats 4000000 in
theorem m_X1_writers {l : Launch} (hl : l.stackTraces = false) {G : gG} {a0 : Nat} {a1 : Int32} {a2 : Int32} {a3 : Int32} {M : gM} {K : Int32 → gM → Prop} {KX : Addr → String → gM → Prop} (hf : f_X1_writers a0 a1 a2 a3 M K KX) : gMet l G yX1_writers (ws_ yX1_writers cX1_writers 6 (some Jvm.ClassFile.FieldType.int)) ({ frames := 29, cells := 3, slots := 18, locals := 652 }) M [.ref a0, .int a1, .int a2, .int a3] (kI K) KX := by
  refine gm_of hl (ret := (some Jvm.ClassFile.FieldType.int)) rfl (Nat.le_of_ble_eq_true rfl) (fun X h hq => ?_)
  have h : hX l G X cX1_writers 6 "GlacierMail" 29 652 := h
  have hf := hf
  show V l G X 3 18 M 0 [(0, .ref a0), (1, .int a1), (2, .int a2), (3, .int a3)] []
  have hf := hf
    (fun v0 v1 v2 v3 v4 v5 M => V l G X 0 0 M 13 [(0, .ref v0), (1, .int v1), (2, .int v2), (3, .int v3), (4, .int v4), (5, .int v5)] [])
    (by
      intro v0 v1 v2 v3 v4 v5 M hf
      show V l G X 0 0 M 13 [(0, .ref v0), (1, .int v1), (2, .int v2), (3, .int v3), (4, .int v4), (5, .int v5)] []
      refine r_iload h 5 dX1_writers_13 rfl ?_
      refine r_aload_n h 0 dX1_writers_15 rfl rfl ?_
      obtain ⟨k3, hf⟩ := hf
      obtain ⟨b4, e5, hf⟩ := hf
      refine g573 h dX1_writers_16 k3 e5 ?_
      obtain ⟨k6, hf⟩ := hf
      refine g355 h dX1_writers_19 k6 ?_
      refine r_icmp_ge (tgt := 65) h dX1_writers_22 (by decide) (fun c7 => ?_) (fun c7 => ?_)
      · have hf := ite_t c7 hf
        refine r_iload h 4 dX1_writers_65 rfl ?_
        exact r_ireturn h hq dX1_writers_67 ⟨_, rfl, hf⟩
      · have hf := ite_f c7 hf
        refine r_iload h 4 dX1_writers_25 rfl ?_
        refine r_aload_n h 0 dX1_writers_27 rfl rfl ?_
        refine r_aload_n h 0 dX1_writers_28 rfl rfl ?_
        obtain ⟨b8, e9, hf⟩ := hf
        refine g573 h dX1_writers_29 k3 e9 ?_
        obtain ⟨k10, hf⟩ := hf
        obtain ⟨b11, e12, hf⟩ := hf
        refine g326 h dX1_writers_32 k10 e12 ?_
        refine r_iload h 5 dX1_writers_35 rfl ?_
        obtain ⟨j13, b14, e15, hf⟩ := hf
        refine r_aaload h 7 (by decide) (by decide) dX1_writers_37 j13 (v := .ref b14) (by rw [e15]; rfl) ?_
        refine r_iload_n h 1 dX1_writers_38 rfl rfl ?_
        refine r_iload_n h 2 dX1_writers_39 rfl rfl ?_
        refine r_iload_n h 3 dX1_writers_40 rfl rfl ?_
        refine c1438 hl h dX1_writers_41 k3 hf (Nat.le_of_ble_eq_true rfl) (by decide) (by decide) (fun x17 M16 hf => ?_)
        refine r_iconst (v := (-1)) h dX1_writers_44 (by decide) ?_
        refine r_icmp_ne (tgt := 52) h dX1_writers_45 (by decide) (fun c18 => ?_) (fun c18 => ?_)
        · have hf := ite_f c18 hf
          refine r_iconst (v := 1) h dX1_writers_52 (by decide) ?_
          refine r_iload h 5 dX1_writers_53 rfl ?_
          refine r_ishl h dX1_writers_55 ?_
          refine r_ior h dX1_writers_56 ?_
          refine r_istore (lv' := [(4, .int (v4 ||| ((1 : Int32) <<< (v5 &&& 31)))), (0, .ref v0), (1, .int v1), (2, .int v2), (3, .int v3), (5, .int v5)]) h dX1_writers_57 (by decide) rfl ?_
          refine r_iinc (v := v5 + 1) (lv' := [(5, .int (v5 + 1)), (4, .int (v4 ||| ((1 : Int32) <<< (v5 &&& 31)))), (0, .ref v0), (1, .int v1), (2, .int v2), (3, .int v3)]) h 5 dX1_writers_59 rfl rfl (by decide) rfl ?_
          refine r_goto (tgt := 13) h dX1_writers_62 (by decide) ?_
          exact V.sub [2, 3, 4, 5, 1, 0] rfl hf
        · have hf := ite_t c18 hf
          refine r_iconst (v := 0) h dX1_writers_48 (by decide) ?_
          refine r_goto (tgt := 56) h dX1_writers_49 (by decide) ?_
          refine r_ior h dX1_writers_56 ?_
          refine r_istore (lv' := [(4, .int (v4 ||| 0)), (0, .ref v0), (1, .int v1), (2, .int v2), (3, .int v3), (5, .int v5)]) h dX1_writers_57 (by decide) rfl ?_
          refine r_iinc (v := v5 + 1) (lv' := [(5, .int (v5 + 1)), (4, .int (v4 ||| 0)), (0, .ref v0), (1, .int v1), (2, .int v2), (3, .int v3)]) h 5 dX1_writers_59 rfl rfl (by decide) rfl ?_
          refine r_goto (tgt := 13) h dX1_writers_62 (by decide) ?_
          exact V.sub [2, 3, 4, 5, 1, 0] rfl hf)
  refine r_aload_n h 0 dX1_writers_0 rfl rfl ?_
  refine r_iload_n h 1 dX1_writers_1 rfl rfl ?_
  refine r_iload_n h 2 dX1_writers_2 rfl rfl ?_
  refine r_iload_n h 3 dX1_writers_3 rfl rfl ?_
  obtain ⟨k1, hf⟩ := hf
  refine c1434 hl h dX1_writers_4 k1 hf (Nat.le_of_ble_eq_true rfl) (by decide) (by decide) (by decide) (by decide) (fun M2 hf => ?_) (fun q9 E9 M9 hf => r_out h hq hf)
  refine r_iconst (v := 0) h dX1_writers_7 (by decide) ?_
  refine r_istore (lv' := [(4, .int 0), (0, .ref a0), (1, .int a1), (2, .int a2), (3, .int a3)]) h dX1_writers_8 (by decide) rfl ?_
  refine r_iconst (v := 0) h dX1_writers_10 (by decide) ?_
  refine r_istore (lv' := [(5, .int 0), (4, .int 0), (0, .ref a0), (1, .int a1), (2, .int a2), (3, .int a3)]) h dX1_writers_11 (by decide) rfl ?_
  exact V.sub [2, 3, 4, 5, 1, 0] rfl hf
theorem c1430 {l : Launch} {G : gG} {X : gX} {cc : ByteArray} {nL F L bc bs pc : Nat} {M : gM} {lv : List (Nat × Value)} {rest : List Value} {a0 : Nat} {a1 : Int32} {a2 : Int32} {a3 : Int32} {K : Int32 → gM → Prop} {KX : Addr → String → gM → Prop} (hl : l.stackTraces = false) (h : hX l G X cc nL "GlacierMailLaw" F L) (d : decode cc pc = .ok (.invokevirtual 81, 3)) (hk : kd M a0 = some (.inl 1)) (hf : f_X1_writers a0 a1 a2 a3 M K KX) (hst : (rest.map fun v => v.category).sum ≤ 8) (hF : 30 ≤ F) (hL : 677 ≤ L) (h1 : 3 ≤ bc) (h2 : 18 ≤ bs) (kk : ∀ x M1, K x M1 → V l G X (bc - 3) (bs - 18) M1 (pc + 3) lv (.int x :: rest)) (kx : ∀ q E M1, KX q E M1 → VX l G X (bc - 3) (bs - 18) M1 pc lv q E) : V l G X bc bs M pc lv (.int a3 :: .int a2 :: .int a1 :: .ref a0 :: rest) := r_callV (n := 3) (As := [.int a1, .int a2, .int a3]) h (m_X1_writers hl hf) 1 rfl hk rfl ⟨by decide, by decide, by decide +kernel⟩ d q1430 q1431 q1432 q135 q1433 rfl rfl hst hF hL h1 h2 (kI_go kk) kx
def f_X0_writers (a0 : Nat) (a1 : Int32) (a2 : Int32) (a3 : Int32) (a4 : Nat) (M : gM) (K : Int32 → gM → Prop) : Prop :=
  kd M a0 = some (.inl 1) ∧ f_X1_writers a0 a1 a2 a3 M (fun x3 M2 => inA M2 a4 2 0 ∧ ∀ M5, M5 = sJ M2 a4 (ix 0) (x3.toInt64) → K 0 M5) (fun q9 E9 M9 => (E9 = "java/lang/IndexOutOfBoundsException" ∧ K 1 M9) ∨ (E9 = "java/lang/IllegalArgumentException" ∧ K 2 M9))
set_option maxHeartbeats 4000000 in
theorem m_X0_writers {l : Launch} (hl : l.stackTraces = false) {G : gG} {a0 : Nat} {a1 : Int32} {a2 : Int32} {a3 : Int32} {a4 : Nat} {M : gM} {K : Int32 → gM → Prop} (hf : f_X0_writers a0 a1 a2 a3 a4 M K) : gMet l G yX0_writers (wsW_ yX0_writers cX0_writers 6 (some Jvm.ClassFile.FieldType.int) [(0, 12, 15, 28), (0, 12, 19, 13)]) ({ frames := 30, cells := 3, slots := 18, locals := 677 }) M [.ref a0, .int a1, .int a2, .int a3, .ref a4] (kI K) kN := by
  refine gm_ofH hl (ret := (some Jvm.ClassFile.FieldType.int)) rfl (Nat.le_of_ble_eq_true rfl) (fun X h hq => ?_)
  have h : hX l G X cX0_writers 6 "GlacierMailLaw" 30 677 := h
  have hf := hf
  show V l G X 3 18 M 0 [(0, .ref a0), (1, .int a1), (2, .int a2), (3, .int a3), (4, .ref a4)] []
  unfold f_X0_writers at hf
  refine r_aload h 4 dX0_writers_0 rfl ?_
  refine r_iconst (v := 0) h dX0_writers_2 (by decide) ?_
  refine r_aload_n h 0 dX0_writers_3 rfl rfl ?_
  refine r_iload_n h 1 dX0_writers_4 rfl rfl ?_
  refine r_iload_n h 2 dX0_writers_5 rfl rfl ?_
  refine r_iload_n h 3 dX0_writers_6 rfl rfl ?_
  obtain ⟨k1, hf⟩ := hf
  refine c1430 hl h dX0_writers_7 k1 hf (Nat.le_of_ble_eq_true rfl) (by decide) (by decide) (by decide) (by decide) (fun x3 M2 hf => ?_) (fun q9 E9 M9 hf => ?_)
  · skip
    refine r_i2l h dX0_writers_10 ?_
    obtain ⟨j4, hf⟩ := hf
    refine r_lastore h dX0_writers_11 j4 ?_
    refine r_goW (fun M5 eM5 => ?_)
    have hf := hf M5 eM5
    refine r_goto (tgt := 23) h dX0_writers_12 (by decide) ?_
    refine r_iconst (v := 0) h dX0_writers_23 (by decide) ?_
    exact r_ireturn h hq dX0_writers_24 ⟨_, rfl, hf⟩
  · rcases hf with ⟨rfl, hf⟩ | ⟨rfl, hf⟩
    · refine r_catch h hq 0 (E := "java/lang/IndexOutOfBoundsException") (nm := "java/lang/IndexOutOfBoundsException") rfl (fun z hz => nomatch hz) (by decide) (by decide) q1153 (List.mem_of_getElem? (i := 8) rfl) ?_
      refine r_astore (lv' := [(5, .ref q9), (0, .ref a0), (1, .int a1), (2, .int a2), (3, .int a3), (4, .ref a4)]) h dX0_writers_15 (by decide) rfl ?_
      refine r_iconst (v := 1) h dX0_writers_17 (by decide) ?_
      exact r_ireturn h hq dX0_writers_18 ⟨_, rfl, hf⟩
    · refine r_catch h hq 1 (E := "java/lang/IllegalArgumentException") (nm := "java/lang/IllegalArgumentException") rfl (List.forall_mem_cons.mpr ⟨Or.inr ⟨by decide, "java/lang/IndexOutOfBoundsException", q1153, List.mem_of_getElem? (i := 16) rfl⟩, List.forall_mem_nil _⟩) (by decide) (by decide) q822 (List.mem_of_getElem? (i := 5) rfl) ?_
      refine r_astore (lv' := [(5, .ref q9), (0, .ref a0), (1, .int a1), (2, .int a2), (3, .int a3), (4, .ref a4)]) h dX0_writers_19 (by decide) rfl ?_
      refine r_iconst (v := 2) h dX0_writers_21 (by decide) ?_
      exact r_ireturn h hq dX0_writers_22 ⟨_, rfl, hf⟩
theorem c1427 {l : Launch} {G : gG} {X : gX} {cc : ByteArray} {nL F L bc bs pc : Nat} {M : gM} {lv : List (Nat × Value)} {rest : List Value} {a0 : Nat} {a1 : Int32} {a2 : Int32} {a3 : Int32} {a4 : Nat} {K : Int32 → gM → Prop} (hl : l.stackTraces = false) (h : hX l G X cc nL "GlacierMailLaw" F L) (d : decode cc pc = .ok (.invokestatic 229, 3)) (hf : f_X0_writers a0 a1 a2 a3 a4 M K) (hst : (rest.map fun v => v.category).sum ≤ 8) (hF : 31 ≤ F) (hL : 702 ≤ L) (h1 : 3 ≤ bc) (h2 : 18 ≤ bs) (kk : ∀ x M1, K x M1 → V l G X (bc - 3) (bs - 18) M1 (pc + 3) lv (.int x :: rest)) : V l G X bc bs M pc lv (.ref a4 :: .int a3 :: .int a2 :: .int a1 :: .ref a0 :: rest) := r_callSH (n := 5) (As := [.ref a0, .int a1, .int a2, .int a3, .ref a4]) h (m_X0_writers hl hf) ⟨by decide, by decide, by decide +kernel⟩ d q1427 q1428 q134 q1429 rfl rfl hst hF hL h1 h2 (kI_go kk) kN_go
def f_X1_wrote (a0 : Nat) (a1 : Int32) (a2 : Int32) (a3 : Int32) (a4 : Int32) (M : gM) (K : Int32 → gM → Prop) (KX : Addr → String → gM → Prop) : Prop :=
  kd M a0 = some (.inl 1) ∧ f_X1_personAt a0 a1 M (fun b3 M2 => kd M2 a0 = some (.inl 1) ∧ f_X1_isFound a0 a2 a3 a4 M2 (fun M5 => kd M5 a0 = some (.inl 1) ∧ f_X1_wroteIn a0 b3 a2 a3 a4 M5 (fun x8 M7 => K x8 M7)) KX) KX
set_option maxHeartbeats 4000000 in
theorem m_X1_wrote {l : Launch} (hl : l.stackTraces = false) {G : gG} {a0 : Nat} {a1 : Int32} {a2 : Int32} {a3 : Int32} {a4 : Int32} {M : gM} {K : Int32 → gM → Prop} {KX : Addr → String → gM → Prop} (hf : f_X1_wrote a0 a1 a2 a3 a4 M K KX) : gMet l G yX1_wrote (ws_ yX1_wrote cX1_wrote 6 (some Jvm.ClassFile.FieldType.int)) ({ frames := 29, cells := 4, slots := 24, locals := 652 }) M [.ref a0, .int a1, .int a2, .int a3, .int a4] (kI K) KX := by
  refine gm_of hl (ret := (some Jvm.ClassFile.FieldType.int)) rfl (Nat.le_of_ble_eq_true rfl) (fun X h hq => ?_)
  have h : hX l G X cX1_wrote 6 "GlacierMail" 29 652 := h
  have hf := hf
  show V l G X 4 24 M 0 [(0, .ref a0), (1, .int a1), (2, .int a2), (3, .int a3), (4, .int a4)] []
  unfold f_X1_wrote at hf
  refine r_aload_n h 0 dX1_wrote_0 rfl rfl ?_
  refine r_iload_n h 1 dX1_wrote_1 rfl rfl ?_
  obtain ⟨k1, hf⟩ := hf
  refine c1231 hl h dX1_wrote_2 k1 hf (Nat.le_of_ble_eq_true rfl) (by decide) (by decide) (by decide) (by decide) (fun b3 M2 hf => ?_) (fun q9 E9 M9 hf => r_out h hq hf)
  refine r_astore (lv' := [(5, .ref b3), (0, .ref a0), (1, .int a1), (2, .int a2), (3, .int a3), (4, .int a4)]) h dX1_wrote_5 (by decide) rfl ?_
  refine r_aload_n h 1 dX1_wrote_7 rfl rfl ?_
  refine r_iload_n h 3 dX1_wrote_8 rfl rfl ?_
  refine r_iload_n h 4 dX1_wrote_9 rfl rfl ?_
  refine r_iload h 5 dX1_wrote_10 rfl ?_
  obtain ⟨k4, hf⟩ := hf
  refine c1434 hl h dX1_wrote_12 k4 hf (Nat.le_of_ble_eq_true rfl) (by decide) (by decide) (by decide) (by decide) (fun M5 hf => ?_) (fun q9 E9 M9 hf => r_out h hq hf)
  refine r_aload_n h 1 dX1_wrote_15 rfl rfl ?_
  refine r_aload h 0 dX1_wrote_16 rfl ?_
  refine r_iload_n h 3 dX1_wrote_18 rfl rfl ?_
  refine r_iload_n h 4 dX1_wrote_19 rfl rfl ?_
  refine r_iload h 5 dX1_wrote_20 rfl ?_
  obtain ⟨k6, hf⟩ := hf
  refine c1438 hl h dX1_wrote_22 k6 hf (Nat.le_of_ble_eq_true rfl) (by decide) (by decide) (fun x8 M7 hf => ?_)
  exact r_ireturn h hq dX1_wrote_25 ⟨_, rfl, hf⟩
theorem c1445 {l : Launch} {G : gG} {X : gX} {cc : ByteArray} {nL F L bc bs pc : Nat} {M : gM} {lv : List (Nat × Value)} {rest : List Value} {a0 : Nat} {a1 : Int32} {a2 : Int32} {a3 : Int32} {a4 : Int32} {K : Int32 → gM → Prop} {KX : Addr → String → gM → Prop} (hl : l.stackTraces = false) (h : hX l G X cc nL "GlacierMailLaw" F L) (d : decode cc pc = .ok (.invokevirtual 84, 3)) (hk : kd M a0 = some (.inl 1)) (hf : f_X1_wrote a0 a1 a2 a3 a4 M K KX) (hst : (rest.map fun v => v.category).sum ≤ 8) (hF : 30 ≤ F) (hL : 677 ≤ L) (h1 : 4 ≤ bc) (h2 : 24 ≤ bs) (kk : ∀ x M1, K x M1 → V l G X (bc - 4) (bs - 24) M1 (pc + 3) lv (.int x :: rest)) (kx : ∀ q E M1, KX q E M1 → VX l G X (bc - 4) (bs - 24) M1 pc lv q E) : V l G X bc bs M pc lv (.int a4 :: .int a3 :: .int a2 :: .int a1 :: .ref a0 :: rest) := r_callV (n := 4) (As := [.int a1, .int a2, .int a3, .int a4]) h (m_X1_wrote hl hf) 1 rfl hk rfl ⟨by decide, by decide, by decide +kernel⟩ d q1445 q1446 q1447 q135 q1448 rfl rfl hst hF hL h1 h2 (kI_go kk) kx
def f_X0_wrote (a0 : Nat) (a1 : Int32) (a2 : Int32) (a3 : Int32) (a4 : Int32) (a5 : Nat) (M : gM) (K : Int32 → gM → Prop) : Prop :=
  kd M a0 = some (.inl 1) ∧ f_X1_wrote a0 a1 a2 a3 a4 M (fun x3 M2 => inA M2 a5 2 0 ∧ ∀ M5, M5 = sJ M2 a5 (ix 0) (x3.toInt64) → K 0 M5) (fun q9 E9 M9 => (E9 = "java/lang/IndexOutOfBoundsException" ∧ K 1 M9) ∨ (E9 = "java/lang/IllegalArgumentException" ∧ K 2 M9))
set_option maxHeartbeats 4000000 in
theorem m_X0_wrote {l : Launch} (hl : l.stackTraces = false) {G : gG} {a0 : Nat} {a1 : Int32} {a2 : Int32} {a3 : Int32} {a4 : Int32} {a5 : Nat} {M : gM} {K : Int32 → gM → Prop} (hf : f_X0_wrote a0 a1 a2 a3 a4 a5 M K) : gMet l G yX0_wrote (wsW_ yX0_wrote cX0_wrote 7 (some Jvm.ClassFile.FieldType.int) [(0, 14, 17, 28), (0, 14, 21, 13)]) ({ frames := 30, cells := 4, slots := 24, locals := 677 }) M [.ref a0, .int a1, .int a2, .int a3, .int a4, .ref a5] (kI K) kN := by
  refine gm_ofH hl (ret := (some Jvm.ClassFile.FieldType.int)) rfl (Nat.le_of_ble_eq_true rfl) (fun X h hq => ?_)
  have h : hX l G X cX0_wrote 7 "GlacierMailLaw" 30 677 := h
  have hf := hf
  show V l G X 4 24 M 0 [(0, .ref a0), (1, .int a1), (2, .int a2), (3, .int a3), (4, .int a4), (5, .ref a5)] []
  unfold f_X0_wrote at hf
  refine r_aload h 5 dX0_wrote_0 rfl ?_
  refine r_iconst (v := 0) h dX0_wrote_2 (by decide) ?_
  refine r_aload_n h 0 dX0_wrote_3 rfl rfl ?_
  refine r_iload_n h 1 dX0_wrote_4 rfl rfl ?_
  refine r_iload_n h 2 dX0_wrote_5 rfl rfl ?_
  refine r_iload_n h 3 dX0_wrote_6 rfl rfl ?_
  refine r_iload h 4 dX0_wrote_7 rfl ?_
  obtain ⟨k1, hf⟩ := hf
  refine c1445 hl h dX0_wrote_9 k1 hf (Nat.le_of_ble_eq_true rfl) (by decide) (by decide) (by decide) (by decide) (fun x3 M2 hf => ?_) (fun q9 E9 M9 hf => ?_)
  · skip
    refine r_i2l h dX0_wrote_12 ?_
    obtain ⟨j4, hf⟩ := hf
    refine r_lastore h dX0_wrote_13 j4 ?_
    refine r_goW (fun M5 eM5 => ?_)
    have hf := hf M5 eM5
    refine r_goto (tgt := 25) h dX0_wrote_14 (by decide) ?_
    refine r_iconst (v := 0) h dX0_wrote_25 (by decide) ?_
    exact r_ireturn h hq dX0_wrote_26 ⟨_, rfl, hf⟩
  · rcases hf with ⟨rfl, hf⟩ | ⟨rfl, hf⟩
    · refine r_catch h hq 0 (E := "java/lang/IndexOutOfBoundsException") (nm := "java/lang/IndexOutOfBoundsException") rfl (fun z hz => nomatch hz) (by decide) (by decide) q1153 (List.mem_of_getElem? (i := 8) rfl) ?_
      refine r_astore (lv' := [(6, .ref q9), (0, .ref a0), (1, .int a1), (2, .int a2), (3, .int a3), (4, .int a4), (5, .ref a5)]) h dX0_wrote_17 (by decide) rfl ?_
      refine r_iconst (v := 1) h dX0_wrote_19 (by decide) ?_
      exact r_ireturn h hq dX0_wrote_20 ⟨_, rfl, hf⟩
    · refine r_catch h hq 1 (E := "java/lang/IllegalArgumentException") (nm := "java/lang/IllegalArgumentException") rfl (List.forall_mem_cons.mpr ⟨Or.inr ⟨by decide, "java/lang/IndexOutOfBoundsException", q1153, List.mem_of_getElem? (i := 16) rfl⟩, List.forall_mem_nil _⟩) (by decide) (by decide) q822 (List.mem_of_getElem? (i := 5) rfl) ?_
      refine r_astore (lv' := [(6, .ref q9), (0, .ref a0), (1, .int a1), (2, .int a2), (3, .int a3), (4, .int a4), (5, .ref a5)]) h dX0_wrote_21 (by decide) rfl ?_
      refine r_iconst (v := 2) h dX0_wrote_23 (by decide) ?_
      exact r_ireturn h hq dX0_wrote_24 ⟨_, rfl, hf⟩
theorem c1442 {l : Launch} {G : gG} {X : gX} {cc : ByteArray} {nL F L bc bs pc : Nat} {M : gM} {lv : List (Nat × Value)} {rest : List Value} {a0 : Nat} {a1 : Int32} {a2 : Int32} {a3 : Int32} {a4 : Int32} {a5 : Nat} {K : Int32 → gM → Prop} (hl : l.stackTraces = false) (h : hX l G X cc nL "GlacierMailLaw" F L) (d : decode cc pc = .ok (.invokestatic 232, 3)) (hf : f_X0_wrote a0 a1 a2 a3 a4 a5 M K) (hst : (rest.map fun v => v.category).sum ≤ 8) (hF : 31 ≤ F) (hL : 703 ≤ L) (h1 : 4 ≤ bc) (h2 : 24 ≤ bs) (kk : ∀ x M1, K x M1 → V l G X (bc - 4) (bs - 24) M1 (pc + 3) lv (.int x :: rest)) : V l G X bc bs M pc lv (.ref a5 :: .int a4 :: .int a3 :: .int a2 :: .int a1 :: .ref a0 :: rest) := r_callSH (n := 6) (As := [.ref a0, .int a1, .int a2, .int a3, .int a4, .ref a5]) h (m_X0_wrote hl hf) ⟨by decide, by decide, by decide +kernel⟩ d q1442 q1443 q134 q1444 rfl rfl hst hF hL h1 h2 (kI_go kk) kN_go
def f_X1_tableAt (a0 : Nat) (a1 : Int32) (M : gM) (K : Nat → gM → Prop) (KX : Addr → String → gM → Prop) : Prop :=
  kd M a0 = some (.inl 1) ∧ ∃ b2, rv M a0 1 = some b2 ∧ kd M b2 = some (.inl 3) ∧ f_X1_isIn a1 0 ((iv M b2 15) - 1) M (fun x6 M5 => f_X1_mustBe x6 M5 (fun M7 => kd M7 a0 = some (.inl 1) ∧ ∃ b9, rv M7 a0 1 = some b9 ∧ kd M7 b9 = some (.inl 3) ∧ ∃ b12, rv M7 b9 4 = some b12 ∧ inA M7 b12 5 a1 ∧ ∃ b15, rv M7 b12 (ix a1) = some b15 ∧ K b15 M7) KX)
set_option maxHeartbeats 4000000 in
theorem m_X1_tableAt {l : Launch} (hl : l.stackTraces = false) {G : gG} {a0 : Nat} {a1 : Int32} {M : gM} {K : Nat → gM → Prop} {KX : Addr → String → gM → Prop} (hf : f_X1_tableAt a0 a1 M K KX) : gMet l G yX1_tableAt (ws_ yX1_tableAt cX1_tableAt 2 (some (Jvm.ClassFile.FieldType.object "GlacierMail$Section"))) ({ frames := 13, cells := 1, slots := 6, locals := 220 }) M [.ref a0, .int a1] (kA K) KX := by
  refine gm_of hl (ret := (some (Jvm.ClassFile.FieldType.object "GlacierMail$Section"))) rfl (Nat.le_of_ble_eq_true rfl) (fun X h hq => ?_)
  have h : hX l G X cX1_tableAt 2 "GlacierMail" 13 220 := h
  have hf := hf
  show V l G X 1 6 M 0 [(0, .ref a0), (1, .int a1)] []
  unfold f_X1_tableAt at hf
  refine r_iload_n h 1 dX1_tableAt_0 rfl rfl ?_
  refine r_iconst (v := 0) h dX1_tableAt_1 (by decide) ?_
  refine r_aload_n h 0 dX1_tableAt_2 rfl rfl ?_
  obtain ⟨k1, hf⟩ := hf
  obtain ⟨b2, e3, hf⟩ := hf
  refine g573 h dX1_tableAt_3 k1 e3 ?_
  obtain ⟨k4, hf⟩ := hf
  refine g362 h dX1_tableAt_6 k4 ?_
  refine r_iconst (v := 1) h dX1_tableAt_9 (by decide) ?_
  refine r_isub h dX1_tableAt_10 ?_
  refine c634 hl h dX1_tableAt_11 hf (Nat.le_of_ble_eq_true rfl) (by decide) (by decide) (fun x6 M5 hf => ?_)
  refine c1193 hl h dX1_tableAt_14 hf (Nat.le_of_ble_eq_true rfl) (by decide) (by decide) (by decide) (by decide) (fun M7 hf => ?_) (fun q9 E9 M9 hf => r_out h hq hf)
  refine r_aload_n h 0 dX1_tableAt_17 rfl rfl ?_
  obtain ⟨k8, hf⟩ := hf
  obtain ⟨b9, e10, hf⟩ := hf
  refine g573 h dX1_tableAt_18 k8 e10 ?_
  obtain ⟨k11, hf⟩ := hf
  obtain ⟨b12, e13, hf⟩ := hf
  refine g333 h dX1_tableAt_21 k11 e13 ?_
  refine r_iload_n h 1 dX1_tableAt_24 rfl rfl ?_
  obtain ⟨j14, b15, e16, hf⟩ := hf
  refine r_aaload h 5 (by decide) (by decide) dX1_tableAt_25 j14 (v := .ref b15) (by rw [e16]; rfl) ?_
  exact r_areturn h hq dX1_tableAt_26 ⟨_, rfl, hf⟩
theorem c1456 {l : Launch} {G : gG} {X : gX} {cc : ByteArray} {nL F L bc bs pc : Nat} {M : gM} {lv : List (Nat × Value)} {rest : List Value} {a0 : Nat} {a1 : Int32} {K : Nat → gM → Prop} {KX : Addr → String → gM → Prop} (hl : l.stackTraces = false) (h : hX l G X cc nL "GlacierMail" F L) (d : decode cc pc = .ok (.invokevirtual 360, 3)) (hk : kd M a0 = some (.inl 1)) (hf : f_X1_tableAt a0 a1 M K KX) (hst : (rest.map fun v => v.category).sum ≤ 8) (hF : 14 ≤ F) (hL : 241 ≤ L) (h1 : 1 ≤ bc) (h2 : 6 ≤ bs) (kk : ∀ x M1, K x M1 → V l G X (bc - 1) (bs - 6) M1 (pc + 3) lv (.ref x :: rest)) (kx : ∀ q E M1, KX q E M1 → VX l G X (bc - 1) (bs - 6) M1 pc lv q E) : V l G X bc bs M pc lv (.int a1 :: .ref a0 :: rest) := r_callV (n := 1) (As := [.int a1]) h (m_X1_tableAt hl hf) 1 rfl hk rfl ⟨by decide, by decide, by decide +kernel⟩ d q1456 q1458 qs44 q135 q1459 rfl rfl hst hF hL h1 h2 (kA_go kk) kx
