def f_X0_bare (a0 : Nat) (a1 : Int32) (a2 : Nat) (M : gM) (K : Int32 → gM → Prop) : Prop :=
  kd M a0 = some (.inl 1) ∧ f_X1_bare a0 a1 M (fun x3 M2 => inA M2 a2 2 0 ∧ ∀ M5, M5 = sJ M2 a2 (ix 0) (x3.toInt64) → K 0 M5) (fun q9 E9 M9 => (E9 = "java/lang/IllegalArgumentException" ∧ K 1 M9))
set_option maxHeartbeats 4000000 in
theorem m_X0_bare {l : Launch} (hl : l.stackTraces = false) {G : gG} {a0 : Nat} {a1 : Int32} {a2 : Nat} {M : gM} {K : Int32 → gM → Prop} (hf : f_X0_bare a0 a1 a2 M K) : gMet l G yX0_bare (wsW_ yX0_bare cX0_bare 4 (some Jvm.ClassFile.FieldType.int) [(0, 9, 12, 13)]) ({ frames := 30, cells := 1, slots := 6, locals := 670 }) M [.ref a0, .int a1, .ref a2] (kI K) kN := by
  refine gm_ofH hl (ret := (some Jvm.ClassFile.FieldType.int)) rfl (Nat.le_of_ble_eq_true rfl) (fun X h hq => ?_)
  have h : hX l G X cX0_bare 4 "GlacierMailLaw" 30 670 := h
  have hf := hf
  show V l G X 1 6 M 0 [(0, .ref a0), (1, .int a1), (2, .ref a2)] []
  unfold f_X0_bare at hf
  refine r_aload_n h 2 dX0_bare_0 rfl rfl ?_
  refine r_iconst (v := 0) h dX0_bare_1 (by decide) ?_
  refine r_aload_n h 0 dX0_bare_2 rfl rfl ?_
  refine r_iload_n h 1 dX0_bare_3 rfl rfl ?_
  obtain ⟨k1, hf⟩ := hf
  refine c1571 hl h dX0_bare_4 k1 hf (Nat.le_of_ble_eq_true rfl) (by decide) (by decide) (by decide) (by decide) (fun x3 M2 hf => ?_) (fun q9 E9 M9 hf => ?_)
  · skip
    refine r_i2l h dX0_bare_7 ?_
    obtain ⟨j4, hf⟩ := hf
    refine r_lastore h dX0_bare_8 j4 ?_
    refine r_goW (fun M5 eM5 => ?_)
    have hf := hf M5 eM5
    refine r_goto (tgt := 15) h dX0_bare_9 (by decide) ?_
    refine r_iconst (v := 0) h dX0_bare_15 (by decide) ?_
    exact r_ireturn h hq dX0_bare_16 ⟨_, rfl, hf⟩
  · rcases hf with ⟨rfl, hf⟩
    · refine r_catch h hq 0 (E := "java/lang/IllegalArgumentException") (nm := "java/lang/IllegalArgumentException") rfl (fun z hz => nomatch hz) (by decide) (by decide) q822 (List.mem_of_getElem? (i := 5) rfl) ?_
      refine r_astore_n (lv' := [(3, .ref q9), (0, .ref a0), (1, .int a1), (2, .ref a2)]) h dX0_bare_12 rfl (by decide) rfl ?_
      refine r_iconst (v := 1) h dX0_bare_13 (by decide) ?_
      exact r_ireturn h hq dX0_bare_14 ⟨_, rfl, hf⟩
theorem c1568 {l : Launch} {G : gG} {X : gX} {cc : ByteArray} {nL F L bc bs pc : Nat} {M : gM} {lv : List (Nat × Value)} {rest : List Value} {a0 : Nat} {a1 : Int32} {a2 : Nat} {K : Int32 → gM → Prop} (hl : l.stackTraces = false) (h : hX l G X cc nL "GlacierMailLaw" F L) (d : decode cc pc = .ok (.invokestatic 284, 3)) (hf : f_X0_bare a0 a1 a2 M K) (hst : (rest.map fun v => v.category).sum ≤ 8) (hF : 31 ≤ F) (hL : 693 ≤ L) (h1 : 1 ≤ bc) (h2 : 6 ≤ bs) (kk : ∀ x M1, K x M1 → V l G X (bc - 1) (bs - 6) M1 (pc + 3) lv (.int x :: rest)) : V l G X bc bs M pc lv (.ref a2 :: .int a1 :: .ref a0 :: rest) := r_callSH (n := 3) (As := [.ref a0, .int a1, .ref a2]) h (m_X0_bare hl hf) ⟨by decide, by decide, by decide +kernel⟩ d q1568 q1569 q134 q1570 rfl rfl hst hF hL h1 h2 (kI_go kk) kN_go
def f_X1_log (a0 : Nat) (a1 : Int32) (a2 : Int32) (M : gM) (K : Int32 → gM → Prop) (KX : Addr → String → gM → Prop) : Prop :=
  f_X1_isIn a2 0 2 M (fun x2 M1 => f_X1_thereIs x2 M1 (fun M3 => kd M3 a0 = some (.inl 1) ∧ ∃ b5, rv M3 a0 1 = some b5 ∧ kd M3 b5 = some (.inl 3) ∧ f_X1_isIn a1 0 ((iv M3 b5 23) - 1) M3 (fun x9 M8 => if x9 = 0 then K (-1) M8 else kd M8 a0 = some (.inl 1) ∧ ∃ b12, rv M8 a0 1 = some b12 ∧ kd M8 b12 = some (.inl 3) ∧ ∃ b15, rv M8 b12 6 = some b15 ∧ inA M8 b15 0 (((3 : Int32) * a1) + a2) ∧ K (iv M8 b15 (ix (((3 : Int32) * a1) + a2))) M8)) KX)
set_option maxHeartbeats 4000000 in
theorem m_X1_log {l : Launch} (hl : l.stackTraces = false) {G : gG} {a0 : Nat} {a1 : Int32} {a2 : Int32} {M : gM} {K : Int32 → gM → Prop} {KX : Addr → String → gM → Prop} (hf : f_X1_log a0 a1 a2 M K KX) : gMet l G yX1_log (ws_ yX1_log cX1_log 3 (some Jvm.ClassFile.FieldType.int)) ({ frames := 13, cells := 1, slots := 6, locals := 220 }) M [.ref a0, .int a1, .int a2] (kI K) KX := by
  refine gm_of hl (ret := (some Jvm.ClassFile.FieldType.int)) rfl (Nat.le_of_ble_eq_true rfl) (fun X h hq => ?_)
  have h : hX l G X cX1_log 3 "GlacierMail" 13 220 := h
  have hf := hf
  show V l G X 1 6 M 0 [(0, .ref a0), (1, .int a1), (2, .int a2)] []
  unfold f_X1_log at hf
  refine r_iload_n h 2 dX1_log_0 rfl rfl ?_
  refine r_iconst (v := 0) h dX1_log_1 (by decide) ?_
  refine r_iconst (v := 2) h dX1_log_2 (by decide) ?_
  refine c634 hl h dX1_log_3 hf (Nat.le_of_ble_eq_true rfl) (by decide) (by decide) (fun x2 M1 hf => ?_)
  refine c1377 hl h dX1_log_6 hf (Nat.le_of_ble_eq_true rfl) (by decide) (by decide) (by decide) (by decide) (fun M3 hf => ?_) (fun q9 E9 M9 hf => r_out h hq hf)
  refine r_iload_n h 1 dX1_log_9 rfl rfl ?_
  refine r_iconst (v := 0) h dX1_log_10 (by decide) ?_
  refine r_aload_n h 0 dX1_log_11 rfl rfl ?_
  obtain ⟨k4, hf⟩ := hf
  obtain ⟨b5, e6, hf⟩ := hf
  refine g573 h dX1_log_12 k4 e6 ?_
  obtain ⟨k7, hf⟩ := hf
  refine g383 h dX1_log_15 k7 ?_
  refine r_iconst (v := 1) h dX1_log_18 (by decide) ?_
  refine r_isub h dX1_log_19 ?_
  refine c634 hl h dX1_log_20 hf (Nat.le_of_ble_eq_true rfl) (by decide) (by decide) (fun x9 M8 hf => ?_)
  refine r_if_eq (tgt := 42) h dX1_log_23 (by decide) (fun c10 => ?_) (fun c10 => ?_)
  · have hf := ite_t c10 hf
    refine r_iconst (v := (-1)) h dX1_log_42 (by decide) ?_
    exact r_ireturn h hq dX1_log_43 ⟨_, rfl, hf⟩
  · have hf := ite_f c10 hf
    refine r_aload_n h 0 dX1_log_26 rfl rfl ?_
    obtain ⟨k11, hf⟩ := hf
    obtain ⟨b12, e13, hf⟩ := hf
    refine g573 h dX1_log_27 k11 e13 ?_
    obtain ⟨k14, hf⟩ := hf
    obtain ⟨b15, e16, hf⟩ := hf
    refine g337 h dX1_log_30 k14 e16 ?_
    refine r_iconst (v := 3) h dX1_log_33 (by decide) ?_
    refine r_iload_n h 1 dX1_log_34 rfl rfl ?_
    refine r_imul h dX1_log_35 ?_
    refine r_iload_n h 2 dX1_log_36 rfl rfl ?_
    refine r_iadd h dX1_log_37 ?_
    obtain ⟨j17, hf⟩ := hf
    refine r_iaload h dX1_log_38 j17 ?_
    refine r_goto (tgt := 43) h dX1_log_39 (by decide) ?_
    exact r_ireturn h hq dX1_log_43 ⟨_, rfl, hf⟩
theorem c1578 {l : Launch} {G : gG} {X : gX} {cc : ByteArray} {nL F L bc bs pc : Nat} {M : gM} {lv : List (Nat × Value)} {rest : List Value} {a0 : Nat} {a1 : Int32} {a2 : Int32} {K : Int32 → gM → Prop} {KX : Addr → String → gM → Prop} (hl : l.stackTraces = false) (h : hX l G X cc nL "GlacierMailLaw" F L) (d : decode cc pc = .ok (.invokevirtual 132, 3)) (hk : kd M a0 = some (.inl 1)) (hf : f_X1_log a0 a1 a2 M K KX) (hst : (rest.map fun v => v.category).sum ≤ 8) (hF : 14 ≤ F) (hL : 242 ≤ L) (h1 : 1 ≤ bc) (h2 : 6 ≤ bs) (kk : ∀ x M1, K x M1 → V l G X (bc - 1) (bs - 6) M1 (pc + 3) lv (.int x :: rest)) (kx : ∀ q E M1, KX q E M1 → VX l G X (bc - 1) (bs - 6) M1 pc lv q E) : V l G X bc bs M pc lv (.int a2 :: .int a1 :: .ref a0 :: rest) := r_callV (n := 2) (As := [.int a1, .int a2]) h (m_X1_log hl hf) 1 rfl hk rfl ⟨by decide, by decide, by decide +kernel⟩ d q1578 q1579 q1580 q135 q1581 rfl rfl hst hF hL h1 h2 (kI_go kk) kx
def f_X0_log (a0 : Nat) (a1 : Int32) (a2 : Int32) (a3 : Nat) (M : gM) (K : Int32 → gM → Prop) : Prop :=
  kd M a0 = some (.inl 1) ∧ f_X1_log a0 a1 a2 M (fun x3 M2 => inA M2 a3 2 0 ∧ ∀ M5, M5 = sJ M2 a3 (ix 0) (x3.toInt64) → K 0 M5) (fun q9 E9 M9 => (E9 = "java/util/NoSuchElementException" ∧ K 1 M9))
set_option maxHeartbeats 4000000 in
theorem m_X0_log {l : Launch} (hl : l.stackTraces = false) {G : gG} {a0 : Nat} {a1 : Int32} {a2 : Int32} {a3 : Nat} {M : gM} {K : Int32 → gM → Prop} (hf : f_X0_log a0 a1 a2 a3 M K) : gMet l G yX0_log (wsW_ yX0_log cX0_log 5 (some Jvm.ClassFile.FieldType.int) [(0, 10, 13, 37)]) ({ frames := 14, cells := 1, slots := 6, locals := 242 }) M [.ref a0, .int a1, .int a2, .ref a3] (kI K) kN := by
  refine gm_ofH hl (ret := (some Jvm.ClassFile.FieldType.int)) rfl (Nat.le_of_ble_eq_true rfl) (fun X h hq => ?_)
  have h : hX l G X cX0_log 5 "GlacierMailLaw" 14 242 := h
  have hf := hf
  show V l G X 1 6 M 0 [(0, .ref a0), (1, .int a1), (2, .int a2), (3, .ref a3)] []
  unfold f_X0_log at hf
  refine r_aload_n h 3 dX0_log_0 rfl rfl ?_
  refine r_iconst (v := 0) h dX0_log_1 (by decide) ?_
  refine r_aload_n h 0 dX0_log_2 rfl rfl ?_
  refine r_iload_n h 1 dX0_log_3 rfl rfl ?_
  refine r_iload_n h 2 dX0_log_4 rfl rfl ?_
  obtain ⟨k1, hf⟩ := hf
  refine c1578 hl h dX0_log_5 k1 hf (Nat.le_of_ble_eq_true rfl) (by decide) (by decide) (by decide) (by decide) (fun x3 M2 hf => ?_) (fun q9 E9 M9 hf => ?_)
  · skip
    refine r_i2l h dX0_log_8 ?_
    obtain ⟨j4, hf⟩ := hf
    refine r_lastore h dX0_log_9 j4 ?_
    refine r_goW (fun M5 eM5 => ?_)
    have hf := hf M5 eM5
    refine r_goto (tgt := 17) h dX0_log_10 (by decide) ?_
    refine r_iconst (v := 0) h dX0_log_17 (by decide) ?_
    exact r_ireturn h hq dX0_log_18 ⟨_, rfl, hf⟩
  · rcases hf with ⟨rfl, hf⟩
    · refine r_catch h hq 0 (E := "java/util/NoSuchElementException") (nm := "java/util/NoSuchElementException") rfl (fun z hz => nomatch hz) (by decide) (by decide) q1226 (List.mem_of_getElem? (i := 9) rfl) ?_
      refine r_astore (lv' := [(4, .ref q9), (0, .ref a0), (1, .int a1), (2, .int a2), (3, .ref a3)]) h dX0_log_13 (by decide) rfl ?_
      refine r_iconst (v := 1) h dX0_log_15 (by decide) ?_
      exact r_ireturn h hq dX0_log_16 ⟨_, rfl, hf⟩
theorem c1575 {l : Launch} {G : gG} {X : gX} {cc : ByteArray} {nL F L bc bs pc : Nat} {M : gM} {lv : List (Nat × Value)} {rest : List Value} {a0 : Nat} {a1 : Int32} {a2 : Int32} {a3 : Nat} {K : Int32 → gM → Prop} (hl : l.stackTraces = false) (h : hX l G X cc nL "GlacierMailLaw" F L) (d : decode cc pc = .ok (.invokestatic 287, 3)) (hf : f_X0_log a0 a1 a2 a3 M K) (hst : (rest.map fun v => v.category).sum ≤ 8) (hF : 15 ≤ F) (hL : 266 ≤ L) (h1 : 1 ≤ bc) (h2 : 6 ≤ bs) (kk : ∀ x M1, K x M1 → V l G X (bc - 1) (bs - 6) M1 (pc + 3) lv (.int x :: rest)) : V l G X bc bs M pc lv (.ref a3 :: .int a2 :: .int a1 :: .ref a0 :: rest) := r_callSH (n := 4) (As := [.ref a0, .int a1, .int a2, .ref a3]) h (m_X0_log hl hf) ⟨by decide, by decide, by decide +kernel⟩ d q1575 q1576 q134 q1577 rfl rfl hst hF hL h1 h2 (kI_go kk) kN_go
def f_X4_init (a0 : Nat) (M : gM) (K : gM → Prop) : Prop :=
  ∀ M1, M1 = sN M (.inr (0, 6)) → kd M1 a0 = some (.inl 4) ∧ ∀ M3, M3 = sR M1 a0 0 (some (sz M)) → K M3
set_option maxHeartbeats 4000000 in
theorem m_X4_init {l : Launch} (hl : l.stackTraces = false) {G : gG} {a0 : Nat} {M : gM} {K : gM → Prop} (hf : f_X4_init a0 M K) : gMet l G yX4_init (ws_ yX4_init cX4_init 1 none) ({ frames := 1, cells := 1, slots := 6, locals := 20 }) M [.ref a0] (kV K) kN := by
  refine gm_of hl (ret := none) rfl (Nat.le_of_ble_eq_true rfl) (fun X h hq => ?_)
  have h : hX l G X cX4_init 1 "GlacierMail$Section" 1 20 := h
  have hf := hf
  show V l G X 1 6 M 0 [(0, .ref a0)] []
  unfold f_X4_init at hf
  refine r_aload_n h 0 dX4_init_0 rfl rfl ?_
  refine r_objinit h q216 q175 q176 dX4_init_1 (by decide) (by decide) (Nat.le_of_ble_eq_true rfl) ?_
  refine r_aload_n h 0 dX4_init_4 rfl rfl ?_
  refine r_bipush (v := 6) h dX4_init_5 (by decide) ?_
  refine r_newarray h 0 (by decide) rfl q230 (N := 6) dX4_init_7 (by decide) (by decide) (by decide) (by decide) (by decide) ?_
  refine r_goW (fun M1 eM1 => ?_)
  have hf := hf M1 eM1
  obtain ⟨k2, hf⟩ := hf
  refine p217 h hq dX4_init_9 k2 ?_
  refine r_goW (fun M3 eM3 => ?_)
  have hf := hf M3 eM3
  exact r_return h hq dX4_init_12 ⟨rfl, hf⟩
theorem c213 {l : Launch} {G : gG} {X : gX} {cc : ByteArray} {nL F L bc bs pc : Nat} {M : gM} {lv : List (Nat × Value)} {rest : List Value} {a0 : Nat} {K : gM → Prop} (hl : l.stackTraces = false) (h : hX l G X cc nL "GlacierMail$State" F L) (d : decode cc pc = .ok (.invokespecial 76, 3)) (hf : f_X4_init a0 M K) (hst : (rest.map fun v => v.category).sum ≤ 8) (hF : 2 ≤ F) (hL : 40 ≤ L) (h1 : 1 ≤ bc) (h2 : 6 ≤ bs) (kk : ∀ M1, K M1 → V l G X (bc - 1) (bs - 6) M1 (pc + 3) lv rest) : V l G X bc bs M pc lv (.ref a0 :: rest) := r_callIN (n := 0) (As := []) h (m_X4_init hl hf) ⟨by decide, by decide, by decide +kernel⟩ rfl d (List.mem_of_getElem? (i := 1) rfl) q214 q138 q215 rfl rfl hst hF hL h1 h2 (kV_go kk) kN_go
def f_X5_init (a0 : Nat) (M : gM) (K : gM → Prop) : Prop :=
  K M
set_option maxHeartbeats 4000000 in
theorem m_X5_init {l : Launch} (hl : l.stackTraces = false) {G : gG} {a0 : Nat} {M : gM} {K : gM → Prop} (hf : f_X5_init a0 M K) : gMet l G yX5_init (ws_ yX5_init cX5_init 1 none) ({ frames := 1, cells := 0, slots := 0, locals := 20 }) M [.ref a0] (kV K) kN := by
  refine gm_of hl (ret := none) rfl (Nat.le_of_ble_eq_true rfl) (fun X h hq => ?_)
  have h : hX l G X cX5_init 1 "GlacierMail$Flood" 1 20 := h
  have hf := hf
  show V l G X 0 0 M 0 [(0, .ref a0)] []
  unfold f_X5_init at hf
  refine r_aload_n h 0 dX5_init_0 rfl rfl ?_
  refine r_objinit h q235 q175 q176 dX5_init_1 (by decide) (by decide) (Nat.le_of_ble_eq_true rfl) ?_
  exact r_return h hq dX5_init_4 ⟨rfl, hf⟩
theorem c232 {l : Launch} {G : gG} {X : gX} {cc : ByteArray} {nL F L bc bs pc : Nat} {M : gM} {lv : List (Nat × Value)} {rest : List Value} {a0 : Nat} {K : gM → Prop} (hl : l.stackTraces = false) (h : hX l G X cc nL "GlacierMail$State" F L) (d : decode cc pc = .ok (.invokespecial 77, 3)) (hf : f_X5_init a0 M K) (hst : (rest.map fun v => v.category).sum ≤ 8) (hF : 2 ≤ F) (hL : 40 ≤ L) (kk : ∀ M1, K M1 → V l G X bc bs M1 (pc + 3) lv rest) : V l G X bc bs M pc lv (.ref a0 :: rest) := r_callIN (n := 0) (As := []) h (m_X5_init hl hf) ⟨by decide, by decide, by decide +kernel⟩ rfl d (List.mem_of_getElem? (i := 2) rfl) q233 q139 q234 rfl rfl hst hF hL (Nat.zero_le _) (Nat.zero_le _) (kV_go kk) kN_go
def f_X6_init (a0 : Nat) (M : gM) (K : gM → Prop) : Prop :=
  K M
set_option maxHeartbeats 4000000 in
theorem m_X6_init {l : Launch} (hl : l.stackTraces = false) {G : gG} {a0 : Nat} {M : gM} {K : gM → Prop} (hf : f_X6_init a0 M K) : gMet l G yX6_init (ws_ yX6_init cX6_init 1 none) ({ frames := 1, cells := 0, slots := 0, locals := 20 }) M [.ref a0] (kV K) kN := by
  refine gm_of hl (ret := none) rfl (Nat.le_of_ble_eq_true rfl) (fun X h hq => ?_)
  have h : hX l G X cX6_init 1 "GlacierMail$Person" 1 20 := h
  have hf := hf
  show V l G X 0 0 M 0 [(0, .ref a0)] []
  unfold f_X6_init at hf
  refine r_aload_n h 0 dX6_init_0 rfl rfl ?_
  refine r_objinit h q257 q175 q176 dX6_init_1 (by decide) (by decide) (Nat.le_of_ble_eq_true rfl) ?_
  exact r_return h hq dX6_init_4 ⟨rfl, hf⟩
theorem c254 {l : Launch} {G : gG} {X : gX} {cc : ByteArray} {nL F L bc bs pc : Nat} {M : gM} {lv : List (Nat × Value)} {rest : List Value} {a0 : Nat} {K : gM → Prop} (hl : l.stackTraces = false) (h : hX l G X cc nL "GlacierMail$State" F L) (d : decode cc pc = .ok (.invokespecial 78, 3)) (hf : f_X6_init a0 M K) (hst : (rest.map fun v => v.category).sum ≤ 8) (hF : 2 ≤ F) (hL : 40 ≤ L) (kk : ∀ M1, K M1 → V l G X bc bs M1 (pc + 3) lv rest) : V l G X bc bs M pc lv (.ref a0 :: rest) := r_callIN (n := 0) (As := []) h (m_X6_init hl hf) ⟨by decide, by decide, by decide +kernel⟩ rfl d (List.mem_of_getElem? (i := 3) rfl) q255 q140 q256 rfl rfl hst hF hL (Nat.zero_le _) (Nat.zero_le _) (kV_go kk) kN_go
def f_X7_init (a0 : Nat) (M : gM) (K : gM → Prop) : Prop :=
  K M
set_option maxHeartbeats 4000000 in
theorem m_X7_init {l : Launch} (hl : l.stackTraces = false) {G : gG} {a0 : Nat} {M : gM} {K : gM → Prop} (hf : f_X7_init a0 M K) : gMet l G yX7_init (ws_ yX7_init cX7_init 1 none) ({ frames := 1, cells := 0, slots := 0, locals := 20 }) M [.ref a0] (kV K) kN := by
  refine gm_of hl (ret := none) rfl (Nat.le_of_ble_eq_true rfl) (fun X h hq => ?_)
  have h : hX l G X cX7_init 1 "GlacierMail$Letter" 1 20 := h
  have hf := hf
  show V l G X 0 0 M 0 [(0, .ref a0)] []
  unfold f_X7_init at hf
  refine r_aload_n h 0 dX7_init_0 rfl rfl ?_
  refine r_objinit h q278 q175 q176 dX7_init_1 (by decide) (by decide) (Nat.le_of_ble_eq_true rfl) ?_
  exact r_return h hq dX7_init_4 ⟨rfl, hf⟩
theorem c275 {l : Launch} {G : gG} {X : gX} {cc : ByteArray} {nL F L bc bs pc : Nat} {M : gM} {lv : List (Nat × Value)} {rest : List Value} {a0 : Nat} {K : gM → Prop} (hl : l.stackTraces = false) (h : hX l G X cc nL "GlacierMail$State" F L) (d : decode cc pc = .ok (.invokespecial 79, 3)) (hf : f_X7_init a0 M K) (hst : (rest.map fun v => v.category).sum ≤ 8) (hF : 2 ≤ F) (hL : 40 ≤ L) (kk : ∀ M1, K M1 → V l G X bc bs M1 (pc + 3) lv rest) : V l G X bc bs M pc lv (.ref a0 :: rest) := r_callIN (n := 0) (As := []) h (m_X7_init hl hf) ⟨by decide, by decide, by decide +kernel⟩ rfl d (List.mem_of_getElem? (i := 4) rfl) q276 q141 q277 rfl rfl hst hF hL (Nat.zero_le _) (Nat.zero_le _) (kV_go kk) kN_go
def f_X3_init (a0 : Nat) (bc bs : Nat) (M : gM) (K : gM → Prop) : Prop :=
  ∀ P122 : Nat → Int32 → Nat → Nat → gM → Prop,
  ∀ P149 : Nat → Int32 → Nat → Nat → gM → Prop,
  ∀ P176 : Nat → Int32 → Nat → Nat → gM → Prop,
  ∀ P203 : Nat → Int32 → Nat → Nat → gM → Prop,
  ∀ P230 : Nat → Int32 → Nat → Nat → gM → Prop,
  (∀ (v0 : Nat) (v1 : Int32) (bc bs : Nat) (M : gM), (if 8 ≤ v1 then P149 v0 0 bc bs M else kd M v0 = some (.inl 3) ∧ ∃ b62, rv M v0 0 = some b62 ∧ 1 ≤ bc ∧ 2 ≤ bs ∧ ∀ M66, M66 = sN M (.inl 4) → 1 ≤ bc - 1 ∧ 6 ≤ bs - 2 ∧ f_X4_init (sz M) M66 (fun M69 => inA M69 b62 5 v1 ∧ kd M69 (sz M) = some (.inl 4) ∧ ∀ M72, M72 = sR M69 b62 (ix v1) (some (sz M)) → P122 v0 (v1 + 1) ((bc - 1) - 1) ((bs - 2) - 6) M72)) → P122 v0 v1 bc bs M) →
  (∀ (v0 : Nat) (v1 : Int32) (bc bs : Nat) (M : gM), (if 8 ≤ v1 then P176 v0 0 bc bs M else kd M v0 = some (.inl 3) ∧ ∃ b75, rv M v0 1 = some b75 ∧ 1 ≤ bc ∧ 3 ≤ bs ∧ ∀ M79, M79 = sN M (.inl 5) → f_X5_init (sz M) M79 (fun M80 => inA M80 b75 6 v1 ∧ kd M80 (sz M) = some (.inl 5) ∧ ∀ M83, M83 = sR M80 b75 (ix v1) (some (sz M)) → P149 v0 (v1 + 1) (bc - 1) (bs - 3) M83)) → P149 v0 v1 bc bs M) →
  (∀ (v0 : Nat) (v1 : Int32) (bc bs : Nat) (M : gM), (if 8 ≤ v1 then P203 v0 0 bc bs M else kd M v0 = some (.inl 3) ∧ ∃ b86, rv M v0 2 = some b86 ∧ 1 ≤ bc ∧ 3 ≤ bs ∧ ∀ M90, M90 = sN M (.inl 6) → f_X6_init (sz M) M90 (fun M91 => inA M91 b86 7 v1 ∧ kd M91 (sz M) = some (.inl 6) ∧ ∀ M94, M94 = sR M91 b86 (ix v1) (some (sz M)) → P176 v0 (v1 + 1) (bc - 1) (bs - 3) M94)) → P176 v0 v1 bc bs M) →
  (∀ (v0 : Nat) (v1 : Int32) (bc bs : Nat) (M : gM), (if 24 ≤ v1 then P230 v0 0 bc bs M else kd M v0 = some (.inl 3) ∧ ∃ b97, rv M v0 3 = some b97 ∧ 1 ≤ bc ∧ 7 ≤ bs ∧ ∀ M101, M101 = sN M (.inl 7) → f_X7_init (sz M) M101 (fun M102 => inA M102 b97 8 v1 ∧ kd M102 (sz M) = some (.inl 7) ∧ ∀ M105, M105 = sR M102 b97 (ix v1) (some (sz M)) → P203 v0 (v1 + 1) (bc - 1) (bs - 7) M105)) → P203 v0 v1 bc bs M) →
  (∀ (v0 : Nat) (v1 : Int32) (bc bs : Nat) (M : gM), (if 6 ≤ v1 then kd M v0 = some (.inl 3) ∧ f_X3_draws v0 M (fun M108 => K M108) else kd M v0 = some (.inl 3) ∧ ∃ b110, rv M v0 4 = some b110 ∧ 1 ≤ bc ∧ 2 ≤ bs ∧ ∀ M114, M114 = sN M (.inl 4) → 1 ≤ bc - 1 ∧ 6 ≤ bs - 2 ∧ f_X4_init (sz M) M114 (fun M117 => inA M117 b110 5 v1 ∧ kd M117 (sz M) = some (.inl 4) ∧ ∀ M120, M120 = sR M117 b110 (ix v1) (some (sz M)) → P230 v0 (v1 + 1) ((bc - 1) - 1) ((bs - 2) - 6) M120)) → P230 v0 v1 bc bs M) →
  1 ≤ bc ∧ 8 ≤ bs ∧ ∀ M3, M3 = sN M (.inr (5, 8)) → kd M3 a0 = some (.inl 3) ∧ ∀ M5, M5 = sR M3 a0 0 (some (sz M)) → 1 ≤ bc - 1 ∧ 8 ≤ bs - 8 ∧ ∀ M8, M8 = sN M5 (.inr (6, 8)) → kd M8 a0 = some (.inl 3) ∧ ∀ M10, M10 = sR M8 a0 1 (some (sz M5)) → 1 ≤ (bc - 1) - 1 ∧ 8 ≤ (bs - 8) - 8 ∧ ∀ M13, M13 = sN M10 (.inr (7, 8)) → kd M13 a0 = some (.inl 3) ∧ ∀ M15, M15 = sR M13 a0 2 (some (sz M10)) → 1 ≤ ((bc - 1) - 1) - 1 ∧ 24 ≤ ((bs - 8) - 8) - 8 ∧ ∀ M18, M18 = sN M15 (.inr (8, 24)) → kd M18 a0 = some (.inl 3) ∧ ∀ M20, M20 = sR M18 a0 3 (some (sz M15)) → 1 ≤ (((bc - 1) - 1) - 1) - 1 ∧ 6 ≤ (((bs - 8) - 8) - 8) - 24 ∧ ∀ M23, M23 = sN M20 (.inr (5, 6)) → kd M23 a0 = some (.inl 3) ∧ ∀ M25, M25 = sR M23 a0 4 (some (sz M20)) → 1 ≤ ((((bc - 1) - 1) - 1) - 1) - 1 ∧ 12 ≤ ((((bs - 8) - 8) - 8) - 24) - 6 ∧ ∀ M28, M28 = sN M25 (.inr (4, 12)) → kd M28 a0 = some (.inl 3) ∧ ∀ M30, M30 = sR M28 a0 5 (some (sz M25)) → 1 ≤ (((((bc - 1) - 1) - 1) - 1) - 1) - 1 ∧ 72 ≤ (((((bs - 8) - 8) - 8) - 24) - 6) - 12 ∧ ∀ M33, M33 = sN M30 (.inr (0, 72)) → kd M33 a0 = some (.inl 3) ∧ ∀ M35, M35 = sR M33 a0 6 (some (sz M30)) → 1 ≤ ((((((bc - 1) - 1) - 1) - 1) - 1) - 1) - 1 ∧ 300 ≤ ((((((bs - 8) - 8) - 8) - 24) - 6) - 12) - 72 ∧ ∀ M38, M38 = sN M35 (.inr (0, 300)) → kd M38 a0 = some (.inl 3) ∧ ∀ M40, M40 = sR M38 a0 7 (some (sz M35)) → 1 ≤ (((((((bc - 1) - 1) - 1) - 1) - 1) - 1) - 1) - 1 ∧ 10 ≤ (((((((bs - 8) - 8) - 8) - 24) - 6) - 12) - 72) - 300 ∧ ∀ M43, M43 = sN M40 (.inr (0, 10)) → kd M43 a0 = some (.inl 3) ∧ ∀ M45, M45 = sR M43 a0 8 (some (sz M40)) → kd M45 a0 = some (.inl 3) ∧ ∀ M47, M47 = sI M45 a0 9 3 → kd M47 a0 = some (.inl 3) ∧ ∀ M49, M49 = sI M47 a0 10 40 → kd M49 a0 = some (.inl 3) ∧ ∀ M51, M51 = sI M49 a0 16 (-1) → kd M51 a0 = some (.inl 3) ∧ ∀ M53, M53 = sI M51 a0 18 10 → kd M53 a0 = some (.inl 3) ∧ ∀ M55, M55 = sI M53 a0 19 2 → kd M55 a0 = some (.inl 3) ∧ ∀ M57, M57 = sI M55 a0 20 3 → kd M57 a0 = some (.inl 3) ∧ ∀ M59, M59 = sI M57 a0 21 1 → P122 a0 0 (((((((((bc - 1) - 1) - 1) - 1) - 1) - 1) - 1) - 1) - 1) (((((((((bs - 8) - 8) - 8) - 24) - 6) - 12) - 72) - 300) - 10) M59
set_option maxHeartbeats 4000000 in
theorem m_X3_init {l : Launch} (hl : l.stackTraces = false) {G : gG} {a0 : Nat} {bc bs : Nat} {M : gM} {K : gM → Prop} (hf : f_X3_init a0 bc bs M K) : gMet l G yX3_init (ws_ yX3_init cX3_init 2 none) ({ frames := 2, cells := bc, slots := bs, locals := 40 }) M [.ref a0] (kV K) kN := by
  refine gm_of hl (ret := none) rfl (Nat.le_of_ble_eq_true rfl) (fun X h hq => ?_)
  have h : hX l G X cX3_init 2 "GlacierMail$State" 2 40 := h
  have hf := hf
  show V l G X bc bs M 0 [(0, .ref a0)] []
  have hf := hf
    (fun v0 v1 bc bs M => V l G X bc bs M 122 [(0, .ref v0), (1, .int v1)] [])
    (fun v0 v1 bc bs M => V l G X bc bs M 149 [(0, .ref v0), (1, .int v1)] [])
    (fun v0 v1 bc bs M => V l G X bc bs M 176 [(0, .ref v0), (1, .int v1)] [])
    (fun v0 v1 bc bs M => V l G X bc bs M 203 [(0, .ref v0), (1, .int v1)] [])
    (fun v0 v1 bc bs M => V l G X bc bs M 230 [(0, .ref v0), (1, .int v1)] [])
    (by
      intro v0 v1 bc bs M hf
      show V l G X bc bs M 122 [(0, .ref v0), (1, .int v1)] []
      refine r_iload_n h 1 dX3_init_122 rfl rfl ?_
      refine r_bipush (v := 8) h dX3_init_123 (by decide) ?_
      refine r_icmp_ge (tgt := 147) h dX3_init_125 (by decide) (fun c60 => ?_) (fun c60 => ?_)
      · have hf := ite_t c60 hf
        refine r_iconst (v := 0) h dX3_init_147 (by decide) ?_
        refine r_istore_n (lv' := [(1, .int 0), (0, .ref v0)]) h dX3_init_148 rfl (by decide) rfl ?_
        exact V.sub [1, 0] rfl hf
      · have hf := ite_f c60 hf
        refine r_aload_n h 0 dX3_init_128 rfl rfl ?_
        obtain ⟨k61, hf⟩ := hf
        obtain ⟨b62, e63, hf⟩ := hf
        refine g320 h dX3_init_129 k61 e63 ?_
        refine r_iload_n h 1 dX3_init_132 rfl rfl ?_
        obtain ⟨h64, h65, hf⟩ := hf
        refine n203 h dX3_init_133 h64 h65 ?_
        refine r_goW (fun M66 eM66 => ?_)
        have hf := hf M66 eM66
        refine r_dup h dX3_init_136 rfl ?_
        obtain ⟨h67, h68, hf⟩ := hf
        refine c213 hl h dX3_init_137 hf (Nat.le_of_ble_eq_true rfl) (by decide) (by decide) h67 h68 (fun M69 hf => ?_)
        obtain ⟨j70, hf⟩ := hf
        obtain ⟨k71, hf⟩ := hf
        refine r_aastore h 5 4 (by decide) (by decide) rfl rfl (Or.inl rfl) dX3_init_140 j70 k71 ?_
        refine r_goW (fun M72 eM72 => ?_)
        have hf := hf M72 eM72
        refine r_iinc (v := v1 + 1) (lv' := [(1, .int (v1 + 1)), (0, .ref v0)]) h 1 dX3_init_141 rfl rfl (by decide) rfl ?_
        refine r_goto (tgt := 122) h dX3_init_144 (by decide) ?_
        exact V.sub [1, 0] rfl hf)
    (by
      intro v0 v1 bc bs M hf
      show V l G X bc bs M 149 [(0, .ref v0), (1, .int v1)] []
      refine r_iload_n h 1 dX3_init_149 rfl rfl ?_
      refine r_bipush (v := 8) h dX3_init_150 (by decide) ?_
      refine r_icmp_ge (tgt := 174) h dX3_init_152 (by decide) (fun c73 => ?_) (fun c73 => ?_)
      · have hf := ite_t c73 hf
        refine r_iconst (v := 0) h dX3_init_174 (by decide) ?_
        refine r_istore_n (lv' := [(1, .int 0), (0, .ref v0)]) h dX3_init_175 rfl (by decide) rfl ?_
        exact V.sub [1, 0] rfl hf
      · have hf := ite_f c73 hf
        refine r_aload_n h 0 dX3_init_155 rfl rfl ?_
        obtain ⟨k74, hf⟩ := hf
        obtain ⟨b75, e76, hf⟩ := hf
        refine g322 h dX3_init_156 k74 e76 ?_
        refine r_iload_n h 1 dX3_init_159 rfl rfl ?_
        obtain ⟨h77, h78, hf⟩ := hf
        refine n205 h dX3_init_160 h77 h78 ?_
        refine r_goW (fun M79 eM79 => ?_)
        have hf := hf M79 eM79
        refine r_dup h dX3_init_163 rfl ?_
        refine c232 hl h dX3_init_164 hf (Nat.le_of_ble_eq_true rfl) (by decide) (by decide) (fun M80 hf => ?_)
        obtain ⟨j81, hf⟩ := hf
        obtain ⟨k82, hf⟩ := hf
        refine r_aastore h 6 5 (by decide) (by decide) rfl rfl (Or.inl rfl) dX3_init_167 j81 k82 ?_
        refine r_goW (fun M83 eM83 => ?_)
        have hf := hf M83 eM83
        refine r_iinc (v := v1 + 1) (lv' := [(1, .int (v1 + 1)), (0, .ref v0)]) h 1 dX3_init_168 rfl rfl (by decide) rfl ?_
        refine r_goto (tgt := 149) h dX3_init_171 (by decide) ?_
        exact V.sub [1, 0] rfl hf)
    (by
      intro v0 v1 bc bs M hf
      show V l G X bc bs M 176 [(0, .ref v0), (1, .int v1)] []
      refine r_iload_n h 1 dX3_init_176 rfl rfl ?_
      refine r_bipush (v := 8) h dX3_init_177 (by decide) ?_
      refine r_icmp_ge (tgt := 201) h dX3_init_179 (by decide) (fun c84 => ?_) (fun c84 => ?_)
      · have hf := ite_t c84 hf
        refine r_iconst (v := 0) h dX3_init_201 (by decide) ?_
        refine r_istore_n (lv' := [(1, .int 0), (0, .ref v0)]) h dX3_init_202 rfl (by decide) rfl ?_
        exact V.sub [1, 0] rfl hf
      · have hf := ite_f c84 hf
        refine r_aload_n h 0 dX3_init_182 rfl rfl ?_
        obtain ⟨k85, hf⟩ := hf
        obtain ⟨b86, e87, hf⟩ := hf
        refine g325 h dX3_init_183 k85 e87 ?_
        refine r_iload_n h 1 dX3_init_186 rfl rfl ?_
        obtain ⟨h88, h89, hf⟩ := hf
        refine n207 h dX3_init_187 h88 h89 ?_
        refine r_goW (fun M90 eM90 => ?_)
        have hf := hf M90 eM90
        refine r_dup h dX3_init_190 rfl ?_
        refine c254 hl h dX3_init_191 hf (Nat.le_of_ble_eq_true rfl) (by decide) (by decide) (fun M91 hf => ?_)
        obtain ⟨j92, hf⟩ := hf
        obtain ⟨k93, hf⟩ := hf
        refine r_aastore h 7 6 (by decide) (by decide) rfl rfl (Or.inl rfl) dX3_init_194 j92 k93 ?_
        refine r_goW (fun M94 eM94 => ?_)
        have hf := hf M94 eM94
        refine r_iinc (v := v1 + 1) (lv' := [(1, .int (v1 + 1)), (0, .ref v0)]) h 1 dX3_init_195 rfl rfl (by decide) rfl ?_
        refine r_goto (tgt := 176) h dX3_init_198 (by decide) ?_
        exact V.sub [1, 0] rfl hf)
    (by
      intro v0 v1 bc bs M hf
      show V l G X bc bs M 203 [(0, .ref v0), (1, .int v1)] []
      refine r_iload_n h 1 dX3_init_203 rfl rfl ?_
      refine r_bipush (v := 24) h dX3_init_204 (by decide) ?_
      refine r_icmp_ge (tgt := 228) h dX3_init_206 (by decide) (fun c95 => ?_) (fun c95 => ?_)
      · have hf := ite_t c95 hf
        refine r_iconst (v := 0) h dX3_init_228 (by decide) ?_
        refine r_istore_n (lv' := [(1, .int 0), (0, .ref v0)]) h dX3_init_229 rfl (by decide) rfl ?_
        exact V.sub [1, 0] rfl hf
      · have hf := ite_f c95 hf
        refine r_aload_n h 0 dX3_init_209 rfl rfl ?_
        obtain ⟨k96, hf⟩ := hf
        obtain ⟨b97, e98, hf⟩ := hf
        refine g328 h dX3_init_210 k96 e98 ?_
        refine r_iload_n h 1 dX3_init_213 rfl rfl ?_
        obtain ⟨h99, h100, hf⟩ := hf
        refine n209 h dX3_init_214 h99 h100 ?_
        refine r_goW (fun M101 eM101 => ?_)
        have hf := hf M101 eM101
        refine r_dup h dX3_init_217 rfl ?_
        refine c275 hl h dX3_init_218 hf (Nat.le_of_ble_eq_true rfl) (by decide) (by decide) (fun M102 hf => ?_)
        obtain ⟨j103, hf⟩ := hf
        obtain ⟨k104, hf⟩ := hf
        refine r_aastore h 8 7 (by decide) (by decide) rfl rfl (Or.inl rfl) dX3_init_221 j103 k104 ?_
        refine r_goW (fun M105 eM105 => ?_)
        have hf := hf M105 eM105
        refine r_iinc (v := v1 + 1) (lv' := [(1, .int (v1 + 1)), (0, .ref v0)]) h 1 dX3_init_222 rfl rfl (by decide) rfl ?_
        refine r_goto (tgt := 203) h dX3_init_225 (by decide) ?_
        exact V.sub [1, 0] rfl hf)
    (by
      intro v0 v1 bc bs M hf
      show V l G X bc bs M 230 [(0, .ref v0), (1, .int v1)] []
      refine r_iload_n h 1 dX3_init_230 rfl rfl ?_
      refine r_bipush (v := 6) h dX3_init_231 (by decide) ?_
      refine r_icmp_ge (tgt := 255) h dX3_init_233 (by decide) (fun c106 => ?_) (fun c106 => ?_)
      · have hf := ite_t c106 hf
        refine r_aload_n h 0 dX3_init_255 rfl rfl ?_
        obtain ⟨k107, hf⟩ := hf
        refine c315 hl h dX3_init_256 k107 hf (Nat.le_of_ble_eq_true rfl) (by decide) (by decide) (fun M108 hf => ?_)
        exact r_return h hq dX3_init_259 ⟨rfl, hf⟩
      · have hf := ite_f c106 hf
        refine r_aload_n h 0 dX3_init_236 rfl rfl ?_
        obtain ⟨k109, hf⟩ := hf
        obtain ⟨b110, e111, hf⟩ := hf
        refine g331 h dX3_init_237 k109 e111 ?_
        refine r_iload_n h 1 dX3_init_240 rfl rfl ?_
        obtain ⟨h112, h113, hf⟩ := hf
        refine n203 h dX3_init_241 h112 h113 ?_
        refine r_goW (fun M114 eM114 => ?_)
        have hf := hf M114 eM114
        refine r_dup h dX3_init_244 rfl ?_
        obtain ⟨h115, h116, hf⟩ := hf
        refine c213 hl h dX3_init_245 hf (Nat.le_of_ble_eq_true rfl) (by decide) (by decide) h115 h116 (fun M117 hf => ?_)
        obtain ⟨j118, hf⟩ := hf
        obtain ⟨k119, hf⟩ := hf
        refine r_aastore h 5 4 (by decide) (by decide) rfl rfl (Or.inl rfl) dX3_init_248 j118 k119 ?_
        refine r_goW (fun M120 eM120 => ?_)
        have hf := hf M120 eM120
        refine r_iinc (v := v1 + 1) (lv' := [(1, .int (v1 + 1)), (0, .ref v0)]) h 1 dX3_init_249 rfl rfl (by decide) rfl ?_
        refine r_goto (tgt := 230) h dX3_init_252 (by decide) ?_
        exact V.sub [1, 0] rfl hf)
  refine r_aload_n h 0 dX3_init_0 rfl rfl ?_
  refine r_objinit h q202 q175 q176 dX3_init_1 (by decide) (by decide) (Nat.le_of_ble_eq_true rfl) ?_
  refine r_aload_n h 0 dX3_init_4 rfl rfl ?_
  refine r_bipush (v := 8) h dX3_init_5 (by decide) ?_
  obtain ⟨h1, h2, hf⟩ := hf
  refine r_anewarray h 5 (by decide) (by decide) rfl q203 (N := 8) dX3_init_7 (by decide) (by decide) (by decide) h1 h2 ?_
  refine r_goW (fun M3 eM3 => ?_)
  have hf := hf M3 eM3
  obtain ⟨k4, hf⟩ := hf
  refine p320 h hq dX3_init_10 k4 ?_
  refine r_goW (fun M5 eM5 => ?_)
  have hf := hf M5 eM5
  refine r_aload_n h 0 dX3_init_13 rfl rfl ?_
  refine r_bipush (v := 8) h dX3_init_14 (by decide) ?_
  obtain ⟨h6, h7, hf⟩ := hf
  refine r_anewarray h 6 (by decide) (by decide) rfl q205 (N := 8) dX3_init_16 (by decide) (by decide) (by decide) h6 h7 ?_
  refine r_goW (fun M8 eM8 => ?_)
  have hf := hf M8 eM8
  obtain ⟨k9, hf⟩ := hf
  refine p322 h hq dX3_init_19 k9 ?_
  refine r_goW (fun M10 eM10 => ?_)
  have hf := hf M10 eM10
  refine r_aload_n h 0 dX3_init_22 rfl rfl ?_
  refine r_bipush (v := 8) h dX3_init_23 (by decide) ?_
  obtain ⟨h11, h12, hf⟩ := hf
  refine r_anewarray h 7 (by decide) (by decide) rfl q207 (N := 8) dX3_init_25 (by decide) (by decide) (by decide) h11 h12 ?_
  refine r_goW (fun M13 eM13 => ?_)
  have hf := hf M13 eM13
  obtain ⟨k14, hf⟩ := hf
  refine p325 h hq dX3_init_28 k14 ?_
  refine r_goW (fun M15 eM15 => ?_)
  have hf := hf M15 eM15
  refine r_aload_n h 0 dX3_init_31 rfl rfl ?_
  refine r_bipush (v := 24) h dX3_init_32 (by decide) ?_
  obtain ⟨h16, h17, hf⟩ := hf
  refine r_anewarray h 8 (by decide) (by decide) rfl q209 (N := 24) dX3_init_34 (by decide) (by decide) (by decide) h16 h17 ?_
  refine r_goW (fun M18 eM18 => ?_)
  have hf := hf M18 eM18
  obtain ⟨k19, hf⟩ := hf
  refine p328 h hq dX3_init_37 k19 ?_
  refine r_goW (fun M20 eM20 => ?_)
  have hf := hf M20 eM20
  refine r_aload_n h 0 dX3_init_40 rfl rfl ?_
  refine r_bipush (v := 6) h dX3_init_41 (by decide) ?_
  obtain ⟨h21, h22, hf⟩ := hf
  refine r_anewarray h 5 (by decide) (by decide) rfl q203 (N := 6) dX3_init_43 (by decide) (by decide) (by decide) h21 h22 ?_
  refine r_goW (fun M23 eM23 => ?_)
  have hf := hf M23 eM23
  obtain ⟨k24, hf⟩ := hf
  refine p331 h hq dX3_init_46 k24 ?_
  refine r_goW (fun M25 eM25 => ?_)
  have hf := hf M25 eM25
  refine r_aload_n h 0 dX3_init_49 rfl rfl ?_
  refine r_bipush (v := 12) h dX3_init_50 (by decide) ?_
  obtain ⟨h26, h27, hf⟩ := hf
  refine r_anewarray h 4 (by decide) (by decide) rfl q211 (N := 12) dX3_init_52 (by decide) (by decide) (by decide) h26 h27 ?_
  refine r_goW (fun M28 eM28 => ?_)
  have hf := hf M28 eM28
  obtain ⟨k29, hf⟩ := hf
  refine p334 h hq dX3_init_55 k29 ?_
  refine r_goW (fun M30 eM30 => ?_)
  have hf := hf M30 eM30
  refine r_aload_n h 0 dX3_init_58 rfl rfl ?_
  refine r_bipush (v := 72) h dX3_init_59 (by decide) ?_
  obtain ⟨h31, h32, hf⟩ := hf
  refine r_newarray h 0 (by decide) rfl q230 (N := 72) dX3_init_61 (by decide) (by decide) (by decide) h31 h32 ?_
  refine r_goW (fun M33 eM33 => ?_)
  have hf := hf M33 eM33
  obtain ⟨k34, hf⟩ := hf
  refine p336 h hq dX3_init_63 k34 ?_
  refine r_goW (fun M35 eM35 => ?_)
  have hf := hf M35 eM35
  refine r_aload_n h 0 dX3_init_66 rfl rfl ?_
  refine r_sipush (v := 300) h dX3_init_67 (by decide) ?_
  obtain ⟨h36, h37, hf⟩ := hf
  refine r_newarray h 0 (by decide) rfl q230 (N := 300) dX3_init_70 (by decide) (by decide) (by decide) h36 h37 ?_
  refine r_goW (fun M38 eM38 => ?_)
  have hf := hf M38 eM38
  obtain ⟨k39, hf⟩ := hf
  refine p338 h hq dX3_init_72 k39 ?_
  refine r_goW (fun M40 eM40 => ?_)
  have hf := hf M40 eM40
  refine r_aload_n h 0 dX3_init_75 rfl rfl ?_
  refine r_bipush (v := 10) h dX3_init_76 (by decide) ?_
  obtain ⟨h41, h42, hf⟩ := hf
  refine r_newarray h 0 (by decide) rfl q230 (N := 10) dX3_init_78 (by decide) (by decide) (by decide) h41 h42 ?_
  refine r_goW (fun M43 eM43 => ?_)
  have hf := hf M43 eM43
  obtain ⟨k44, hf⟩ := hf
  refine p340 h hq dX3_init_80 k44 ?_
  refine r_goW (fun M45 eM45 => ?_)
  have hf := hf M45 eM45
  refine r_aload_n h 0 dX3_init_83 rfl rfl ?_
  refine r_iconst (v := 3) h dX3_init_84 (by decide) ?_
  obtain ⟨k46, hf⟩ := hf
  refine p341 h dX3_init_85 k46 ?_
  refine r_goW (fun M47 eM47 => ?_)
  have hf := hf M47 eM47
  refine r_aload_n h 0 dX3_init_88 rfl rfl ?_
  refine r_bipush (v := 40) h dX3_init_89 (by decide) ?_
  obtain ⟨k48, hf⟩ := hf
  refine p344 h dX3_init_91 k48 ?_
  refine r_goW (fun M49 eM49 => ?_)
  have hf := hf M49 eM49
  refine r_aload_n h 0 dX3_init_94 rfl rfl ?_
  refine r_iconst (v := (-1)) h dX3_init_95 (by decide) ?_
  obtain ⟨k50, hf⟩ := hf
  refine p363 h dX3_init_96 k50 ?_
  refine r_goW (fun M51 eM51 => ?_)
  have hf := hf M51 eM51
  refine r_aload_n h 0 dX3_init_99 rfl rfl ?_
  refine r_bipush (v := 10) h dX3_init_100 (by decide) ?_
  obtain ⟨k52, hf⟩ := hf
  refine p367 h dX3_init_102 k52 ?_
  refine r_goW (fun M53 eM53 => ?_)
  have hf := hf M53 eM53
  refine r_aload_n h 0 dX3_init_105 rfl rfl ?_
  refine r_iconst (v := 2) h dX3_init_106 (by decide) ?_
  obtain ⟨k54, hf⟩ := hf
  refine p370 h dX3_init_107 k54 ?_
  refine r_goW (fun M55 eM55 => ?_)
  have hf := hf M55 eM55
  refine r_aload_n h 0 dX3_init_110 rfl rfl ?_
  refine r_iconst (v := 3) h dX3_init_111 (by decide) ?_
  obtain ⟨k56, hf⟩ := hf
  refine p373 h dX3_init_112 k56 ?_
  refine r_goW (fun M57 eM57 => ?_)
  have hf := hf M57 eM57
  refine r_aload_n h 0 dX3_init_115 rfl rfl ?_
  refine r_iconst (v := 1) h dX3_init_116 (by decide) ?_
  obtain ⟨k58, hf⟩ := hf
  refine p376 h dX3_init_117 k58 ?_
  refine r_goW (fun M59 eM59 => ?_)
  have hf := hf M59 eM59
  refine r_iconst (v := 0) h dX3_init_120 (by decide) ?_
  refine r_istore_n (lv' := [(1, .int 0), (0, .ref a0)]) h dX3_init_121 rfl (by decide) rfl ?_
  exact V.sub [1, 0] rfl hf
theorem c199 {l : Launch} {G : gG} {X : gX} {cc : ByteArray} {nL F L bc bs pc : Nat} {M : gM} {lv : List (Nat × Value)} {rest : List Value} {a0 : Nat} {c z : Nat} {K : gM → Prop} (hl : l.stackTraces = false) (h : hX l G X cc nL "GlacierMail$Reader" F L) (d : decode cc pc = .ok (.invokespecial 51, 3)) (hf : f_X3_init a0 c z M K) (hst : (rest.map fun v => v.category).sum ≤ 8) (hF : 3 ≤ F) (hL : 61 ≤ L) (h1 : c ≤ bc) (h2 : z ≤ bs) (kk : ∀ M1, K M1 → V l G X (bc - c) (bs - z) M1 (pc + 3) lv rest) : V l G X bc bs M pc lv (.ref a0 :: rest) := r_callI (n := 0) (As := []) h (m_X3_init hl hf) ⟨by decide, by decide, by decide +kernel⟩ rfl d q199 q200 q137 q201 rfl rfl hst hF hL h1 h2 (kV_go kk) kN_go
theorem c544 {l : Launch} {G : gG} {X : gX} {cc : ByteArray} {nL F L bc bs pc : Nat} {M : gM} {lv : List (Nat × Value)} {rest : List Value} {a0 : Nat} {c z : Nat} {K : gM → Prop} (hl : l.stackTraces = false) (h : hX l G X cc nL "GlacierMail" F L) (d : decode cc pc = .ok (.invokespecial 20, 3)) (hf : f_X3_init a0 c z M K) (hst : (rest.map fun v => v.category).sum ≤ 8) (hF : 3 ≤ F) (hL : 61 ≤ L) (h1 : c ≤ bc) (h2 : z ≤ bs) (kk : ∀ M1, K M1 → V l G X (bc - c) (bs - z) M1 (pc + 3) lv rest) : V l G X bc bs M pc lv (.ref a0 :: rest) := r_callI (n := 0) (As := []) h (m_X3_init hl hf) ⟨by decide, by decide, by decide +kernel⟩ rfl d q544 q200 q137 q201 rfl rfl hst hF hL h1 h2 (kV_go kk) kN_go
def f_X8_init (a0 : Nat) (M : gM) (K : gM → Prop) : Prop :=
  f_J2_init a0 none none 0 0 M (fun M1 => K M1)
set_option maxHeartbeats 4000000 in
theorem m_X8_init {l : Launch} (hl : l.stackTraces = false) {G : gG} {a0 : Nat} {M : gM} {K : gM → Prop} (hf : f_X8_init a0 M K) : gMet l G yX8_init (ws_ yX8_init cX8_init 1 none) ({ frames := 4, cells := 0, slots := 0, locals := 92 }) M [.ref a0] (kV K) kN := by
  refine gm_of hl (ret := none) rfl (Nat.le_of_ble_eq_true rfl) (fun X h hq => ?_)
  have h : hX l G X cX8_init 1 "GlacierMail$Wrong" 4 92 := h
  have hf := hf
  show V l G X 0 0 M 0 [(0, .ref a0)] []
  unfold f_X8_init at hf
  refine r_aload_n h 0 dX8_init_0 rfl rfl ?_
  refine r_aconst_null h dX8_init_1 ?_
  refine r_aconst_null h dX8_init_2 ?_
  refine r_iconst (v := 0) h dX8_init_3 (by decide) ?_
  refine r_iconst (v := 0) h dX8_init_4 (by decide) ?_
  refine c481 hl h dX8_init_5 hf (Nat.le_of_ble_eq_true rfl) (by decide) (by decide) (fun M1 hf => ?_)
  exact r_return h hq dX8_init_8 ⟨rfl, hf⟩
theorem c478 {l : Launch} {G : gG} {X : gX} {cc : ByteArray} {nL F L bc bs pc : Nat} {M : gM} {lv : List (Nat × Value)} {rest : List Value} {a0 : Nat} {K : gM → Prop} (hl : l.stackTraces = false) (h : hX l G X cc nL "GlacierMail$Reader" F L) (d : decode cc pc = .ok (.invokespecial 58, 3)) (hf : f_X8_init a0 M K) (hst : (rest.map fun v => v.category).sum ≤ 8) (hF : 5 ≤ F) (hL : 112 ≤ L) (kk : ∀ M1, K M1 → V l G X bc bs M1 (pc + 3) lv rest) : V l G X bc bs M pc lv (.ref a0 :: rest) := r_callI (n := 0) (As := []) h (m_X8_init hl hf) ⟨by decide, by decide, by decide +kernel⟩ rfl d q478 q479 q145 q480 rfl rfl hst hF hL (Nat.zero_le _) (Nat.zero_le _) (kV_go kk) kN_go
def f_X2_init (a0 : Nat) (bc bs : Nat) (M : gM) (K : gM → Prop) : Prop :=
  1 ≤ bc ∧ 400 ≤ bs ∧ ∀ M3, M3 = sN M (.inr (1, 400)) → kd M3 a0 = some (.inl 2) ∧ ∀ M5, M5 = sR M3 a0 0 (some (sz M)) → 1 ≤ bc - 1 ∧ 8 ≤ bs - 400 ∧ ∀ M8, M8 = sN M5 (.inr (3, 8)) → ∀ w9, kd M8 w9 = some (.inr (10, 0)) → inA M8 (sz M5) 3 0 ∧ ∀ M11, M11 = sR M8 (sz M5) (ix 0) (some w9) → ∀ w12, kd M11 w12 = some (.inr (10, 1)) → inA M11 (sz M5) 3 1 ∧ ∀ M14, M14 = sR M11 (sz M5) (ix 1) (some w12) → ∀ w15, kd M14 w15 = some (.inr (10, 2)) → inA M14 (sz M5) 3 2 ∧ ∀ M17, M17 = sR M14 (sz M5) (ix 2) (some w15) → ∀ w18, kd M17 w18 = some (.inr (10, 3)) → inA M17 (sz M5) 3 3 ∧ ∀ M20, M20 = sR M17 (sz M5) (ix 3) (some w18) → ∀ w21, kd M20 w21 = some (.inr (10, 4)) → inA M20 (sz M5) 3 4 ∧ ∀ M23, M23 = sR M20 (sz M5) (ix 4) (some w21) → ∀ w24, kd M23 w24 = some (.inr (10, 5)) → inA M23 (sz M5) 3 5 ∧ ∀ M26, M26 = sR M23 (sz M5) (ix 5) (some w24) → ∀ w27, kd M26 w27 = some (.inr (10, 6)) → inA M26 (sz M5) 3 6 ∧ ∀ M29, M29 = sR M26 (sz M5) (ix 6) (some w27) → ∀ w30, kd M29 w30 = some (.inr (10, 7)) → inA M29 (sz M5) 3 7 ∧ ∀ M32, M32 = sR M29 (sz M5) (ix 7) (some w30) → kd M32 a0 = some (.inl 2) ∧ ∀ M34, M34 = sR M32 a0 1 (some (sz M5)) → 1 ≤ (bc - 1) - 1 ∧ 2 ≤ (bs - 400) - 8 ∧ ∀ M37, M37 = sN M34 (.inr (3, 2)) → ∀ w38, kd M37 w38 = some (.inr (10, 8)) → inA M37 (sz M34) 3 0 ∧ ∀ M40, M40 = sR M37 (sz M34) (ix 0) (some w38) → ∀ w41, kd M40 w41 = some (.inr (10, 9)) → inA M40 (sz M34) 3 1 ∧ ∀ M43, M43 = sR M40 (sz M34) (ix 1) (some w41) → kd M43 a0 = some (.inl 2) ∧ ∀ M45, M45 = sR M43 a0 2 (some (sz M34)) → 1 ≤ ((bc - 1) - 1) - 1 ∧ 12 ≤ ((bs - 400) - 8) - 2 ∧ ∀ M48, M48 = sN M45 (.inr (4, 12)) → kd M48 a0 = some (.inl 2) ∧ ∀ M50, M50 = sR M48 a0 3 (some (sz M45)) → 1 ≤ (((bc - 1) - 1) - 1) - 1 ∧ 24 ≤ (((bs - 400) - 8) - 2) - 12 ∧ ∀ M53, M53 = sN M50 (.inl 3) → ∃ c54 z55, c54 ≤ ((((bc - 1) - 1) - 1) - 1) - 1 ∧ z55 ≤ ((((bs - 400) - 8) - 2) - 12) - 24 ∧ f_X3_init (sz M50) c54 z55 M53 (fun M58 => kd M58 a0 = some (.inl 2) ∧ ∀ M60, M60 = sR M58 a0 4 (some (sz M50)) → 1 ≤ (((((bc - 1) - 1) - 1) - 1) - 1) - c54 ∧ 7 ≤ (((((bs - 400) - 8) - 2) - 12) - 24) - z55 ∧ ∀ M63, M63 = sN M60 (.inl 8) → f_X8_init (sz M60) M63 (fun M64 => kd M64 a0 = some (.inl 2) ∧ ∀ M66, M66 = sR M64 a0 5 (some (sz M60)) → K M66))
set_option maxHeartbeats 4000000 in
theorem m_X2_init {l : Launch} (hl : l.stackTraces = false) {G : gG} {a0 : Nat} {bc bs : Nat} {M : gM} {K : gM → Prop} (hf : f_X2_init a0 bc bs M K) : gMet l G yX2_init (ws_ yX2_init cX2_init 1 none) ({ frames := 5, cells := bc, slots := bs, locals := 112 }) M [.ref a0] (kV K) kN := by
  refine gm_of hl (ret := none) rfl (Nat.le_of_ble_eq_true rfl) (fun X h hq => ?_)
  have h : hX l G X cX2_init 1 "GlacierMail$Reader" 5 112 := h
  have hf := hf
  show V l G X bc bs M 0 [(0, .ref a0)] []
  unfold f_X2_init at hf
  refine r_aload_n h 0 dX2_init_0 rfl rfl ?_
  refine r_objinit h q182 q175 q176 dX2_init_1 (by decide) (by decide) (Nat.le_of_ble_eq_true rfl) ?_
  refine r_aload_n h 0 dX2_init_4 rfl rfl ?_
  refine r_sipush (v := 400) h dX2_init_5 (by decide) ?_
  obtain ⟨h1, h2, hf⟩ := hf
  refine r_newarray h 1 (by decide) rfl q229 (N := 400) dX2_init_8 (by decide) (by decide) (by decide) h1 h2 ?_
  refine r_goW (fun M3 eM3 => ?_)
  have hf := hf M3 eM3
  obtain ⟨k4, hf⟩ := hf
  refine p507 h hq dX2_init_10 k4 ?_
  refine r_goW (fun M5 eM5 => ?_)
  have hf := hf M5 eM5
  refine r_aload_n h 0 dX2_init_13 rfl rfl ?_
  refine r_bipush (v := 8) h dX2_init_14 (by decide) ?_
  obtain ⟨h6, h7, hf⟩ := hf
  refine r_anewarray h 3 (by decide) (by decide) rfl q183 (N := 8) dX2_init_16 (by decide) (by decide) (by decide) h6 h7 ?_
  refine r_goW (fun M8 eM8 => ?_)
  have hf := hf M8 eM8
  refine r_dup h dX2_init_19 rfl ?_
  refine r_iconst (v := 0) h dX2_init_20 (by decide) ?_
  refine r_ldcS h (i := 0) (by decide) (List.mem_of_getElem? (i := 0) rfl) dX2_init_21 (fun w9 kw9 => ?_)
  have hf := hf w9 kw9
  obtain ⟨j10, hf⟩ := hf
  refine r_aastoreS h dX2_init_23 j10 kw9 ?_
  refine r_goW (fun M11 eM11 => ?_)
  have hf := hf M11 eM11
  refine r_dup h dX2_init_24 rfl ?_
  refine r_iconst (v := 1) h dX2_init_25 (by decide) ?_
  refine r_ldcS h (i := 1) (by decide) (List.mem_of_getElem? (i := 1) rfl) dX2_init_26 (fun w12 kw12 => ?_)
  have hf := hf w12 kw12
  obtain ⟨j13, hf⟩ := hf
  refine r_aastoreS h dX2_init_28 j13 kw12 ?_
  refine r_goW (fun M14 eM14 => ?_)
  have hf := hf M14 eM14
  refine r_dup h dX2_init_29 rfl ?_
  refine r_iconst (v := 2) h dX2_init_30 (by decide) ?_
  refine r_ldcS h (i := 2) (by decide) (List.mem_of_getElem? (i := 2) rfl) dX2_init_31 (fun w15 kw15 => ?_)
  have hf := hf w15 kw15
  obtain ⟨j16, hf⟩ := hf
  refine r_aastoreS h dX2_init_33 j16 kw15 ?_
  refine r_goW (fun M17 eM17 => ?_)
  have hf := hf M17 eM17
  refine r_dup h dX2_init_34 rfl ?_
  refine r_iconst (v := 3) h dX2_init_35 (by decide) ?_
  refine r_ldcS h (i := 3) (by decide) (List.mem_of_getElem? (i := 3) rfl) dX2_init_36 (fun w18 kw18 => ?_)
  have hf := hf w18 kw18
  obtain ⟨j19, hf⟩ := hf
  refine r_aastoreS h dX2_init_38 j19 kw18 ?_
  refine r_goW (fun M20 eM20 => ?_)
  have hf := hf M20 eM20
  refine r_dup h dX2_init_39 rfl ?_
  refine r_iconst (v := 4) h dX2_init_40 (by decide) ?_
  refine r_ldcS h (i := 4) (by decide) (List.mem_of_getElem? (i := 4) rfl) dX2_init_41 (fun w21 kw21 => ?_)
  have hf := hf w21 kw21
  obtain ⟨j22, hf⟩ := hf
  refine r_aastoreS h dX2_init_43 j22 kw21 ?_
  refine r_goW (fun M23 eM23 => ?_)
  have hf := hf M23 eM23
  refine r_dup h dX2_init_44 rfl ?_
  refine r_iconst (v := 5) h dX2_init_45 (by decide) ?_
  refine r_ldcS h (i := 5) (by decide) (List.mem_of_getElem? (i := 5) rfl) dX2_init_46 (fun w24 kw24 => ?_)
  have hf := hf w24 kw24
  obtain ⟨j25, hf⟩ := hf
  refine r_aastoreS h dX2_init_48 j25 kw24 ?_
  refine r_goW (fun M26 eM26 => ?_)
  have hf := hf M26 eM26
  refine r_dup h dX2_init_49 rfl ?_
  refine r_bipush (v := 6) h dX2_init_50 (by decide) ?_
  refine r_ldcS h (i := 6) (by decide) (List.mem_of_getElem? (i := 6) rfl) dX2_init_52 (fun w27 kw27 => ?_)
  have hf := hf w27 kw27
  obtain ⟨j28, hf⟩ := hf
  refine r_aastoreS h dX2_init_54 j28 kw27 ?_
  refine r_goW (fun M29 eM29 => ?_)
  have hf := hf M29 eM29
  refine r_dup h dX2_init_55 rfl ?_
  refine r_bipush (v := 7) h dX2_init_56 (by decide) ?_
  refine r_ldcS h (i := 7) (by decide) (List.mem_of_getElem? (i := 7) rfl) dX2_init_58 (fun w30 kw30 => ?_)
  have hf := hf w30 kw30
  obtain ⟨j31, hf⟩ := hf
  refine r_aastoreS h dX2_init_60 j31 kw30 ?_
  refine r_goW (fun M32 eM32 => ?_)
  have hf := hf M32 eM32
  obtain ⟨k33, hf⟩ := hf
  refine p509 h hq dX2_init_61 k33 ?_
  refine r_goW (fun M34 eM34 => ?_)
  have hf := hf M34 eM34
  refine r_aload_n h 0 dX2_init_64 rfl rfl ?_
  refine r_iconst (v := 2) h dX2_init_65 (by decide) ?_
  obtain ⟨h35, h36, hf⟩ := hf
  refine r_anewarray h 3 (by decide) (by decide) rfl q183 (N := 2) dX2_init_66 (by decide) (by decide) (by decide) h35 h36 ?_
  refine r_goW (fun M37 eM37 => ?_)
  have hf := hf M37 eM37
  refine r_dup h dX2_init_69 rfl ?_
  refine r_iconst (v := 0) h dX2_init_70 (by decide) ?_
  refine r_ldcS h (i := 8) (by decide) (List.mem_of_getElem? (i := 8) rfl) dX2_init_71 (fun w38 kw38 => ?_)
  have hf := hf w38 kw38
  obtain ⟨j39, hf⟩ := hf
  refine r_aastoreS h dX2_init_73 j39 kw38 ?_
  refine r_goW (fun M40 eM40 => ?_)
  have hf := hf M40 eM40
  refine r_dup h dX2_init_74 rfl ?_
  refine r_iconst (v := 1) h dX2_init_75 (by decide) ?_
  refine r_ldcS h (i := 9) (by decide) (List.mem_of_getElem? (i := 9) rfl) dX2_init_76 (fun w41 kw41 => ?_)
  have hf := hf w41 kw41
  obtain ⟨j42, hf⟩ := hf
  refine r_aastoreS h dX2_init_78 j42 kw41 ?_
  refine r_goW (fun M43 eM43 => ?_)
  have hf := hf M43 eM43
  obtain ⟨k44, hf⟩ := hf
  refine p510 h hq dX2_init_79 k44 ?_
  refine r_goW (fun M45 eM45 => ?_)
  have hf := hf M45 eM45
  refine r_aload_n h 0 dX2_init_82 rfl rfl ?_
  refine r_bipush (v := 12) h dX2_init_83 (by decide) ?_
  obtain ⟨h46, h47, hf⟩ := hf
  refine r_anewarray h 4 (by decide) (by decide) rfl q195 (N := 12) dX2_init_85 (by decide) (by decide) (by decide) h46 h47 ?_
  refine r_goW (fun M48 eM48 => ?_)
  have hf := hf M48 eM48
  obtain ⟨k49, hf⟩ := hf
  refine p511 h hq dX2_init_88 k49 ?_
  refine r_goW (fun M50 eM50 => ?_)
  have hf := hf M50 eM50
  refine r_aload_n h 0 dX2_init_91 rfl rfl ?_
  obtain ⟨h51, h52, hf⟩ := hf
  refine n197 h dX2_init_92 h51 h52 ?_
  refine r_goW (fun M53 eM53 => ?_)
  have hf := hf M53 eM53
  refine r_dup h dX2_init_95 rfl ?_
  obtain ⟨c54, z55, h56, h57, hf⟩ := hf
  refine c199 hl h dX2_init_96 hf (Nat.le_of_ble_eq_true rfl) (by decide) (by decide) h56 h57 (fun M58 hf => ?_)
  obtain ⟨k59, hf⟩ := hf
  refine p513 h hq dX2_init_99 k59 ?_
  refine r_goW (fun M60 eM60 => ?_)
  have hf := hf M60 eM60
  refine r_aload_n h 0 dX2_init_102 rfl rfl ?_
  obtain ⟨h61, h62, hf⟩ := hf
  refine n433 h dX2_init_103 h61 h62 ?_
  refine r_goW (fun M63 eM63 => ?_)
  have hf := hf M63 eM63
  refine r_dup h dX2_init_106 rfl ?_
  refine c478 hl h dX2_init_107 hf (Nat.le_of_ble_eq_true rfl) (by decide) (by decide) (fun M64 hf => ?_)
  obtain ⟨k65, hf⟩ := hf
  refine p514 h hq dX2_init_110 k65 ?_
  refine r_goW (fun M66 eM66 => ?_)
  have hf := hf M66 eM66
  exact r_return h hq dX2_init_113 ⟨rfl, hf⟩
theorem c179 {l : Launch} {G : gG} {X : gX} {cc : ByteArray} {nL F L bc bs pc : Nat} {M : gM} {lv : List (Nat × Value)} {rest : List Value} {a0 : Nat} {c z : Nat} {K : gM → Prop} (hl : l.stackTraces = false) (h : hX l G X cc nL "GlacierMail" F L) (d : decode cc pc = .ok (.invokespecial 11, 3)) (hf : f_X2_init a0 c z M K) (hst : (rest.map fun v => v.category).sum ≤ 8) (hF : 6 ≤ F) (hL : 132 ≤ L) (h1 : c ≤ bc) (h2 : z ≤ bs) (kk : ∀ M1, K M1 → V l G X (bc - c) (bs - z) M1 (pc + 3) lv rest) : V l G X bc bs M pc lv (.ref a0 :: rest) := r_callIN (n := 0) (As := []) h (m_X2_init hl hf) ⟨by decide, by decide, by decide +kernel⟩ rfl d (List.mem_of_getElem? (i := 0) rfl) q180 q136 q181 rfl rfl hst hF hL h1 h2 (kV_go kk) kN_go
def f_X9_init (a0 : Nat) (a1 : Nat) (M : gM) (K : gM → Prop) : Prop :=
  kd M a0 = some (.inl 9) ∧ ∀ M2, M2 = sR M a0 4 (some a1) → ∀ M3, M3 = sN M2 (.inr (0, 300)) → kd M3 a0 = some (.inl 9) ∧ ∀ M5, M5 = sR M3 a0 0 (some (sz M2)) → ∀ M6, M6 = sN M5 (.inr (0, 300)) → kd M6 a0 = some (.inl 9) ∧ ∀ M8, M8 = sR M6 a0 1 (some (sz M5)) → K M8
set_option maxHeartbeats 4000000 in
theorem m_X9_init {l : Launch} (hl : l.stackTraces = false) {G : gG} {a0 : Nat} {a1 : Nat} {M : gM} {K : gM → Prop} (hf : f_X9_init a0 a1 M K) : gMet l G yX9_init (ws_ yX9_init cX9_init 2 none) ({ frames := 1, cells := 2, slots := 600, locals := 20 }) M [.ref a0, .ref a1] (kV K) kN := by
  refine gm_of hl (ret := none) rfl (Nat.le_of_ble_eq_true rfl) (fun X h hq => ?_)
  have h : hX l G X cX9_init 2 "GlacierMail$Trip" 1 20 := h
  have hf := hf
  show V l G X 2 600 M 0 [(0, .ref a0), (1, .ref a1)] []
  unfold f_X9_init at hf
  refine r_aload_n h 0 dX9_init_0 rfl rfl ?_
  refine r_aload_n h 1 dX9_init_1 rfl rfl ?_
  obtain ⟨k1, hf⟩ := hf
  refine p560 h hq dX9_init_2 k1 ?_
  refine r_goW (fun M2 eM2 => ?_)
  have hf := hf M2 eM2
  refine r_aload_n h 0 dX9_init_5 rfl rfl ?_
  refine r_objinit h q551 q175 q176 dX9_init_6 (by decide) (by decide) (Nat.le_of_ble_eq_true rfl) ?_
  refine r_aload_n h 0 dX9_init_9 rfl rfl ?_
  refine r_sipush (v := 300) h dX9_init_10 (by decide) ?_
  refine r_newarray h 0 (by decide) rfl q230 (N := 300) dX9_init_13 (by decide) (by decide) (by decide) (by decide) (by decide) ?_
  refine r_goW (fun M3 eM3 => ?_)
  have hf := hf M3 eM3
  obtain ⟨k4, hf⟩ := hf
  refine p552 h hq dX9_init_15 k4 ?_
  refine r_goW (fun M5 eM5 => ?_)
  have hf := hf M5 eM5
  refine r_aload_n h 0 dX9_init_18 rfl rfl ?_
  refine r_sipush (v := 300) h dX9_init_19 (by decide) ?_
  refine r_newarray h 0 (by decide) rfl q230 (N := 300) dX9_init_22 (by decide) (by decide) (by decide) (by decide) (by decide) ?_
  refine r_goW (fun M6 eM6 => ?_)
  have hf := hf M6 eM6
  obtain ⟨k7, hf⟩ := hf
  refine p554 h hq dX9_init_24 k7 ?_
  refine r_goW (fun M8 eM8 => ?_)
  have hf := hf M8 eM8
  exact r_return h hq dX9_init_27 ⟨rfl, hf⟩
theorem c548 {l : Launch} {G : gG} {X : gX} {cc : ByteArray} {nL F L bc bs pc : Nat} {M : gM} {lv : List (Nat × Value)} {rest : List Value} {a0 : Nat} {a1 : Nat} {K : gM → Prop} (hl : l.stackTraces = false) (h : hX l G X cc nL "GlacierMail" F L) (d : decode cc pc = .ok (.invokespecial 34, 3)) (hf : f_X9_init a0 a1 M K) (hst : (rest.map fun v => v.category).sum ≤ 8) (hF : 2 ≤ F) (hL : 41 ≤ L) (h1 : 2 ≤ bc) (h2 : 600 ≤ bs) (kk : ∀ M1, K M1 → V l G X (bc - 2) (bs - 600) M1 (pc + 3) lv rest) : V l G X bc bs M pc lv (.ref a1 :: .ref a0 :: rest) := r_callIN (n := 1) (As := [.ref a1]) h (m_X9_init hl hf) ⟨by decide, by decide, by decide +kernel⟩ rfl d (List.mem_of_getElem? (i := 5) rfl) q549 q146 q550 rfl rfl hst hF hL h1 h2 (kV_go kk) kN_go
def f_X1_init (a0 : Nat) (bc bs : Nat) (M : gM) (K : gM → Prop) : Prop :=
  ∀ P127 : Nat → Int32 → Nat → Nat → gM → Prop,
  (∀ (v0 : Nat) (v1 : Int32) (bc bs : Nat) (M : gM), (if 12 ≤ v1 then K M else kd M v0 = some (.inl 1) ∧ ∃ b83, rv M v0 3 = some b83 ∧ 1 ≤ bc ∧ 24 ≤ bs ∧ ∀ M87, M87 = sN M (.inl 3) → ∃ c88 z89, c88 ≤ bc - 1 ∧ z89 ≤ bs - 24 ∧ f_X3_init (sz M) c88 z89 M87 (fun M92 => inA M92 b83 9 v1 ∧ kd M92 (sz M) = some (.inl 3) ∧ ∀ M95, M95 = sR M92 b83 (ix v1) (some (sz M)) → P127 v0 (v1 + 1) ((bc - 1) - c88) ((bs - 24) - z89) M95)) → P127 v0 v1 bc bs M) →
  1 ≤ bc ∧ 11 ≤ bs ∧ ∀ M3, M3 = sN M (.inl 2) → ∃ c4 z5, c4 ≤ bc - 1 ∧ z5 ≤ bs - 11 ∧ f_X2_init (sz M) c4 z5 M3 (fun M8 => kd M8 a0 = some (.inl 1) ∧ ∀ M10, M10 = sR M8 a0 0 (some (sz M)) → 1 ≤ (bc - 1) - c4 ∧ 24 ≤ (bs - 11) - z5 ∧ ∀ M13, M13 = sN M10 (.inl 3) → ∃ c14 z15, c14 ≤ ((bc - 1) - c4) - 1 ∧ z15 ≤ ((bs - 11) - z5) - 24 ∧ f_X3_init (sz M10) c14 z15 M13 (fun M18 => kd M18 a0 = some (.inl 1) ∧ ∀ M20, M20 = sR M18 a0 1 (some (sz M10)) → 1 ≤ (((bc - 1) - c4) - 1) - c14 ∧ 24 ≤ (((bs - 11) - z5) - 24) - z15 ∧ ∀ M23, M23 = sN M20 (.inl 3) → ∃ c24 z25, c24 ≤ ((((bc - 1) - c4) - 1) - c14) - 1 ∧ z25 ≤ ((((bs - 11) - z5) - 24) - z15) - 24 ∧ f_X3_init (sz M20) c24 z25 M23 (fun M28 => kd M28 a0 = some (.inl 1) ∧ ∀ M30, M30 = sR M28 a0 2 (some (sz M20)) → 1 ≤ (((((bc - 1) - c4) - 1) - c14) - 1) - c24 ∧ 12 ≤ (((((bs - 11) - z5) - 24) - z15) - 24) - z25 ∧ ∀ M33, M33 = sN M30 (.inr (9, 12)) → kd M33 a0 = some (.inl 1) ∧ ∀ M35, M35 = sR M33 a0 3 (some (sz M30)) → 1 ≤ ((((((bc - 1) - c4) - 1) - c14) - 1) - c24) - 1 ∧ 5 ≤ ((((((bs - 11) - z5) - 24) - z15) - 24) - z25) - 12 ∧ ∀ M38, M38 = sN M35 (.inl 9) → 2 ≤ (((((((bc - 1) - c4) - 1) - c14) - 1) - c24) - 1) - 1 ∧ 600 ≤ (((((((bs - 11) - z5) - 24) - z15) - 24) - z25) - 12) - 5 ∧ f_X9_init (sz M35) a0 M38 (fun M41 => kd M41 a0 = some (.inl 1) ∧ ∀ M43, M43 = sR M41 a0 4 (some (sz M35)) → 1 ≤ ((((((((bc - 1) - c4) - 1) - c14) - 1) - c24) - 1) - 1) - 2 ∧ 5 ≤ ((((((((bs - 11) - z5) - 24) - z15) - 24) - z25) - 12) - 5) - 600 ∧ ∀ M46, M46 = sN M43 (.inl 9) → 2 ≤ (((((((((bc - 1) - c4) - 1) - c14) - 1) - c24) - 1) - 1) - 2) - 1 ∧ 600 ≤ (((((((((bs - 11) - z5) - 24) - z15) - 24) - z25) - 12) - 5) - 600) - 5 ∧ f_X9_init (sz M43) a0 M46 (fun M49 => kd M49 a0 = some (.inl 1) ∧ ∀ M51, M51 = sR M49 a0 5 (some (sz M43)) → 1 ≤ ((((((((((bc - 1) - c4) - 1) - c14) - 1) - c24) - 1) - 1) - 2) - 1) - 2 ∧ 29700 ≤ ((((((((((bs - 11) - z5) - 24) - z15) - 24) - z25) - 12) - 5) - 600) - 5) - 600 ∧ ∀ M54, M54 = sN M51 (.inr (0, 29700)) → kd M54 a0 = some (.inl 1) ∧ ∀ M56, M56 = sR M54 a0 6 (some (sz M51)) → 1 ≤ (((((((((((bc - 1) - c4) - 1) - c14) - 1) - c24) - 1) - 1) - 2) - 1) - 2) - 1 ∧ 2400 ≤ (((((((((((bs - 11) - z5) - 24) - z15) - 24) - z25) - 12) - 5) - 600) - 5) - 600) - 29700 ∧ ∀ M59, M59 = sN M56 (.inr (0, 2400)) → kd M59 a0 = some (.inl 1) ∧ ∀ M61, M61 = sR M59 a0 7 (some (sz M56)) → 1 ≤ ((((((((((((bc - 1) - c4) - 1) - c14) - 1) - c24) - 1) - 1) - 2) - 1) - 2) - 1) - 1 ∧ 2400 ≤ ((((((((((((bs - 11) - z5) - 24) - z15) - 24) - z25) - 12) - 5) - 600) - 5) - 600) - 29700) - 2400 ∧ ∀ M64, M64 = sN M61 (.inr (0, 2400)) → kd M64 a0 = some (.inl 1) ∧ ∀ M66, M66 = sR M64 a0 8 (some (sz M61)) → 1 ≤ (((((((((((((bc - 1) - c4) - 1) - c14) - 1) - c24) - 1) - 1) - 2) - 1) - 2) - 1) - 1) - 1 ∧ 180 ≤ (((((((((((((bs - 11) - z5) - 24) - z15) - 24) - z25) - 12) - 5) - 600) - 5) - 600) - 29700) - 2400) - 2400 ∧ ∀ M69, M69 = sN M66 (.inr (0, 180)) → kd M69 a0 = some (.inl 1) ∧ ∀ M71, M71 = sR M69 a0 9 (some (sz M66)) → 1 ≤ ((((((((((((((bc - 1) - c4) - 1) - c14) - 1) - c24) - 1) - 1) - 2) - 1) - 2) - 1) - 1) - 1) - 1 ∧ 186 ≤ ((((((((((((((bs - 11) - z5) - 24) - z15) - 24) - z25) - 12) - 5) - 600) - 5) - 600) - 29700) - 2400) - 2400) - 180 ∧ ∀ M74, M74 = sN M71 (.inr (0, 186)) → kd M74 a0 = some (.inl 1) ∧ ∀ M76, M76 = sR M74 a0 10 (some (sz M71)) → kd M76 a0 = some (.inl 1) ∧ ∀ M78, M78 = sI M76 a0 11 (-1) → kd M78 a0 = some (.inl 1) ∧ ∀ M80, M80 = sI M78 a0 14 (-1) → P127 a0 0 ((((((((((((((((bc - 1) - c4) - 1) - c14) - 1) - c24) - 1) - 1) - 2) - 1) - 2) - 1) - 1) - 1) - 1) - 1) ((((((((((((((((bs - 11) - z5) - 24) - z15) - 24) - z25) - 12) - 5) - 600) - 5) - 600) - 29700) - 2400) - 2400) - 180) - 186) M80)))))
set_option maxHeartbeats 4000000 in
theorem m_X1_init {l : Launch} (hl : l.stackTraces = false) {G : gG} {a0 : Nat} {bc bs : Nat} {M : gM} {K : gM → Prop} (hf : f_X1_init a0 bc bs M K) : gMet l G yX1_init (ws_ yX1_init cX1_init 2 none) ({ frames := 6, cells := bc, slots := bs, locals := 132 }) M [.ref a0] (kV K) kN := by
  refine gm_of hl (ret := none) rfl (Nat.le_of_ble_eq_true rfl) (fun X h hq => ?_)
  have h : hX l G X cX1_init 2 "GlacierMail" 6 132 := h
  have hf := hf
  show V l G X bc bs M 0 [(0, .ref a0)] []
  have hf := hf
    (fun v0 v1 bc bs M => V l G X bc bs M 127 [(0, .ref v0), (1, .int v1)] [])
    (by
      intro v0 v1 bc bs M hf
      show V l G X bc bs M 127 [(0, .ref v0), (1, .int v1)] []
      refine r_iload_n h 1 dX1_init_127 rfl rfl ?_
      refine r_bipush (v := 12) h dX1_init_128 (by decide) ?_
      refine r_icmp_ge (tgt := 152) h dX1_init_130 (by decide) (fun c81 => ?_) (fun c81 => ?_)
      · have hf := ite_t c81 hf
        exact r_return h hq dX1_init_152 ⟨rfl, hf⟩
      · have hf := ite_f c81 hf
        refine r_aload_n h 0 dX1_init_133 rfl rfl ?_
        obtain ⟨k82, hf⟩ := hf
        obtain ⟨b83, e84, hf⟩ := hf
        refine g576 h dX1_init_134 k82 e84 ?_
        refine r_iload_n h 1 dX1_init_137 rfl rfl ?_
        obtain ⟨h85, h86, hf⟩ := hf
        refine n543 h dX1_init_138 h85 h86 ?_
        refine r_goW (fun M87 eM87 => ?_)
        have hf := hf M87 eM87
        refine r_dup h dX1_init_141 rfl ?_
        obtain ⟨c88, z89, h90, h91, hf⟩ := hf
        refine c544 hl h dX1_init_142 hf (Nat.le_of_ble_eq_true rfl) (by decide) (by decide) h90 h91 (fun M92 hf => ?_)
        obtain ⟨j93, hf⟩ := hf
        obtain ⟨k94, hf⟩ := hf
        refine r_aastore h 9 3 (by decide) (by decide) rfl rfl (Or.inl rfl) dX1_init_145 j93 k94 ?_
        refine r_goW (fun M95 eM95 => ?_)
        have hf := hf M95 eM95
        refine r_iinc (v := v1 + 1) (lv' := [(1, .int (v1 + 1)), (0, .ref v0)]) h 1 dX1_init_146 rfl rfl (by decide) rfl ?_
        refine r_goto (tgt := 127) h dX1_init_149 (by decide) ?_
        exact V.sub [1, 0] rfl hf)
  refine r_aload_n h 0 dX1_init_0 rfl rfl ?_
  refine r_objinit h q174 q175 q176 dX1_init_1 (by decide) (by decide) (Nat.le_of_ble_eq_true rfl) ?_
  refine r_aload_n h 0 dX1_init_4 rfl rfl ?_
  obtain ⟨h1, h2, hf⟩ := hf
  refine n177 h dX1_init_5 h1 h2 ?_
  refine r_goW (fun M3 eM3 => ?_)
  have hf := hf M3 eM3
  refine r_dup h dX1_init_8 rfl ?_
  obtain ⟨c4, z5, h6, h7, hf⟩ := hf
  refine c179 hl h dX1_init_9 hf (Nat.le_of_ble_eq_true rfl) (by decide) (by decide) h6 h7 (fun M8 hf => ?_)
  obtain ⟨k9, hf⟩ := hf
  refine p572 h hq dX1_init_12 k9 ?_
  refine r_goW (fun M10 eM10 => ?_)
  have hf := hf M10 eM10
  refine r_aload_n h 0 dX1_init_15 rfl rfl ?_
  obtain ⟨h11, h12, hf⟩ := hf
  refine n543 h dX1_init_16 h11 h12 ?_
  refine r_goW (fun M13 eM13 => ?_)
  have hf := hf M13 eM13
  refine r_dup h dX1_init_19 rfl ?_
  obtain ⟨c14, z15, h16, h17, hf⟩ := hf
  refine c544 hl h dX1_init_20 hf (Nat.le_of_ble_eq_true rfl) (by decide) (by decide) h16 h17 (fun M18 hf => ?_)
  obtain ⟨k19, hf⟩ := hf
  refine p573 h hq dX1_init_23 k19 ?_
  refine r_goW (fun M20 eM20 => ?_)
  have hf := hf M20 eM20
  refine r_aload_n h 0 dX1_init_26 rfl rfl ?_
  obtain ⟨h21, h22, hf⟩ := hf
  refine n543 h dX1_init_27 h21 h22 ?_
  refine r_goW (fun M23 eM23 => ?_)
  have hf := hf M23 eM23
  refine r_dup h dX1_init_30 rfl ?_
  obtain ⟨c24, z25, h26, h27, hf⟩ := hf
  refine c544 hl h dX1_init_31 hf (Nat.le_of_ble_eq_true rfl) (by decide) (by decide) h26 h27 (fun M28 hf => ?_)
  obtain ⟨k29, hf⟩ := hf
  refine p575 h hq dX1_init_34 k29 ?_
  refine r_goW (fun M30 eM30 => ?_)
  have hf := hf M30 eM30
  refine r_aload_n h 0 dX1_init_37 rfl rfl ?_
  refine r_bipush (v := 12) h dX1_init_38 (by decide) ?_
  obtain ⟨h31, h32, hf⟩ := hf
  refine r_anewarray h 9 (by decide) (by decide) rfl q543 (N := 12) dX1_init_40 (by decide) (by decide) (by decide) h31 h32 ?_
  refine r_goW (fun M33 eM33 => ?_)
  have hf := hf M33 eM33
  obtain ⟨k34, hf⟩ := hf
  refine p576 h hq dX1_init_43 k34 ?_
  refine r_goW (fun M35 eM35 => ?_)
  have hf := hf M35 eM35
  refine r_aload_n h 0 dX1_init_46 rfl rfl ?_
  obtain ⟨h36, h37, hf⟩ := hf
  refine n546 h dX1_init_47 h36 h37 ?_
  refine r_goW (fun M38 eM38 => ?_)
  have hf := hf M38 eM38
  refine r_dup h dX1_init_50 rfl ?_
  refine r_aload_n h 0 dX1_init_51 rfl rfl ?_
  obtain ⟨h39, h40, hf⟩ := hf
  refine c548 hl h dX1_init_52 hf (Nat.le_of_ble_eq_true rfl) (by decide) (by decide) h39 h40 (fun M41 hf => ?_)
  obtain ⟨k42, hf⟩ := hf
  refine p577 h hq dX1_init_55 k42 ?_
  refine r_goW (fun M43 eM43 => ?_)
  have hf := hf M43 eM43
  refine r_aload_n h 0 dX1_init_58 rfl rfl ?_
  obtain ⟨h44, h45, hf⟩ := hf
  refine n546 h dX1_init_59 h44 h45 ?_
  refine r_goW (fun M46 eM46 => ?_)
  have hf := hf M46 eM46
  refine r_dup h dX1_init_62 rfl ?_
  refine r_aload_n h 0 dX1_init_63 rfl rfl ?_
  obtain ⟨h47, h48, hf⟩ := hf
  refine c548 hl h dX1_init_64 hf (Nat.le_of_ble_eq_true rfl) (by decide) (by decide) h47 h48 (fun M49 hf => ?_)
  obtain ⟨k50, hf⟩ := hf
  refine p578 h hq dX1_init_67 k50 ?_
  refine r_goW (fun M51 eM51 => ?_)
  have hf := hf M51 eM51
  refine r_aload_n h 0 dX1_init_70 rfl rfl ?_
  refine r_sipush (v := 29700) h dX1_init_71 (by decide) ?_
  obtain ⟨h52, h53, hf⟩ := hf
  refine r_newarray h 0 (by decide) rfl q230 (N := 29700) dX1_init_74 (by decide) (by decide) (by decide) h52 h53 ?_
  refine r_goW (fun M54 eM54 => ?_)
  have hf := hf M54 eM54
  obtain ⟨k55, hf⟩ := hf
  refine p579 h hq dX1_init_76 k55 ?_
  refine r_goW (fun M56 eM56 => ?_)
  have hf := hf M56 eM56
  refine r_aload_n h 0 dX1_init_79 rfl rfl ?_
  refine r_sipush (v := 2400) h dX1_init_80 (by decide) ?_
  obtain ⟨h57, h58, hf⟩ := hf
  refine r_newarray h 0 (by decide) rfl q230 (N := 2400) dX1_init_83 (by decide) (by decide) (by decide) h57 h58 ?_
  refine r_goW (fun M59 eM59 => ?_)
  have hf := hf M59 eM59
  obtain ⟨k60, hf⟩ := hf
  refine p580 h hq dX1_init_85 k60 ?_
  refine r_goW (fun M61 eM61 => ?_)
  have hf := hf M61 eM61
  refine r_aload_n h 0 dX1_init_88 rfl rfl ?_
  refine r_sipush (v := 2400) h dX1_init_89 (by decide) ?_
  obtain ⟨h62, h63, hf⟩ := hf
  refine r_newarray h 0 (by decide) rfl q230 (N := 2400) dX1_init_92 (by decide) (by decide) (by decide) h62 h63 ?_
  refine r_goW (fun M64 eM64 => ?_)
  have hf := hf M64 eM64
  obtain ⟨k65, hf⟩ := hf
  refine p581 h hq dX1_init_94 k65 ?_
  refine r_goW (fun M66 eM66 => ?_)
  have hf := hf M66 eM66
  refine r_aload_n h 0 dX1_init_97 rfl rfl ?_
  refine r_sipush (v := 180) h dX1_init_98 (by decide) ?_
  obtain ⟨h67, h68, hf⟩ := hf
  refine r_newarray h 0 (by decide) rfl q230 (N := 180) dX1_init_101 (by decide) (by decide) (by decide) h67 h68 ?_
  refine r_goW (fun M69 eM69 => ?_)
  have hf := hf M69 eM69
  obtain ⟨k70, hf⟩ := hf
  refine p582 h hq dX1_init_103 k70 ?_
  refine r_goW (fun M71 eM71 => ?_)
  have hf := hf M71 eM71
  refine r_aload_n h 0 dX1_init_106 rfl rfl ?_
  refine r_sipush (v := 186) h dX1_init_107 (by decide) ?_
  obtain ⟨h72, h73, hf⟩ := hf
  refine r_newarray h 0 (by decide) rfl q230 (N := 186) dX1_init_110 (by decide) (by decide) (by decide) h72 h73 ?_
  refine r_goW (fun M74 eM74 => ?_)
  have hf := hf M74 eM74
  obtain ⟨k75, hf⟩ := hf
  refine p583 h hq dX1_init_112 k75 ?_
  refine r_goW (fun M76 eM76 => ?_)
  have hf := hf M76 eM76
  refine r_aload_n h 0 dX1_init_115 rfl rfl ?_
  refine r_iconst (v := (-1)) h dX1_init_116 (by decide) ?_
  obtain ⟨k77, hf⟩ := hf
  refine p584 h dX1_init_117 k77 ?_
  refine r_goW (fun M78 eM78 => ?_)
  have hf := hf M78 eM78
  refine r_aload_n h 0 dX1_init_120 rfl rfl ?_
  refine r_iconst (v := (-1)) h dX1_init_121 (by decide) ?_
  obtain ⟨k79, hf⟩ := hf
  refine p587 h dX1_init_122 k79 ?_
  refine r_goW (fun M80 eM80 => ?_)
  have hf := hf M80 eM80
  refine r_iconst (v := 0) h dX1_init_125 (by decide) ?_
  refine r_istore_n (lv' := [(1, .int 0), (0, .ref a0)]) h dX1_init_126 rfl (by decide) rfl ?_
  exact V.sub [1, 0] rfl hf
theorem c171 {l : Launch} {G : gG} {X : gX} {cc : ByteArray} {nL F L bc bs pc : Nat} {M : gM} {lv : List (Nat × Value)} {rest : List Value} {a0 : Nat} {c z : Nat} {K : gM → Prop} (hl : l.stackTraces = false) (h : hX l G X cc nL "GlacierMailLaw" F L) (d : decode cc pc = .ok (.invokespecial 135, 3)) (hf : f_X1_init a0 c z M K) (hst : (rest.map fun v => v.category).sum ≤ 8) (hF : 7 ≤ F) (hL : 153 ≤ L) (h1 : c ≤ bc) (h2 : z ≤ bs) (kk : ∀ M1, K M1 → V l G X (bc - c) (bs - z) M1 (pc + 3) lv rest) : V l G X bc bs M pc lv (.ref a0 :: rest) := r_callI (n := 0) (As := []) h (m_X1_init hl hf) ⟨by decide, by decide, by decide +kernel⟩ rfl d q171 q172 q135 q173 rfl rfl hst hF hL h1 h2 (kV_go kk) kN_go
def f_X1_four (a0 : Nat) (a1 : Int32) (M : gM) (K : gM → Prop) : Prop :=
  ∀ P3 : Nat → Int32 → Int32 → gM → Prop,
  (∀ (v0 : Nat) (v1 : Int32) (v2 : Int32) (M : gM), (if v2 < 0 then K M else kd M v0 = some (.inl 1) ∧ ∃ b3, rv M v0 0 = some b3 ∧ kd M b3 = some (.inl 2) ∧ ∃ b6, rv M b3 0 = some b6 ∧ ∃ b8, rv M v0 0 = some b8 ∧ kd M b8 = some (.inl 2) ∧ inA M b6 1 (iv M b8 6) ∧ ∀ M12, M12 = sI M b6 (ix (iv M b8 6)) ((v1 >>> (v2 &&& 31)).toInt8.toInt32).toInt8.toInt32 → kd M12 v0 = some (.inl 1) ∧ ∃ b14, rv M12 v0 0 = some b14 ∧ kd M12 b14 = some (.inl 2) ∧ ∀ M17, M17 = sI M12 b14 6 ((iv M12 b14 6) + 1) → P3 v0 v1 (v2 + (-8)) M17) → P3 v0 v1 v2 M) →
  P3 a0 a1 24 M
set_option maxHeartbeats 4000000 in
theorem m_X1_four {l : Launch} (hl : l.stackTraces = false) {G : gG} {a0 : Nat} {a1 : Int32} {M : gM} {K : gM → Prop} (hf : f_X1_four a0 a1 M K) : gMet l G yX1_four (ws_ yX1_four cX1_four 3 none) ({ frames := 0, cells := 0, slots := 0, locals := 0 }) M [.ref a0, .int a1] (kV K) kN := by
  refine gm_of hl (ret := none) rfl (Nat.le_of_ble_eq_true rfl) (fun X h hq => ?_)
  have h : hX l G X cX1_four 3 "GlacierMail" 0 0 := h
  have hf := hf
  show V l G X 0 0 M 0 [(0, .ref a0), (1, .int a1)] []
  have hf := hf
    (fun v0 v1 v2 M => V l G X 0 0 M 3 [(0, .ref v0), (1, .int v1), (2, .int v2)] [])
    (by
      intro v0 v1 v2 M hf
      show V l G X 0 0 M 3 [(0, .ref v0), (1, .int v1), (2, .int v2)] []
      refine r_iload_n h 2 dX1_four_3 rfl rfl ?_
      refine r_if_lt (tgt := 45) h dX1_four_4 (by decide) (fun c1 => ?_) (fun c1 => ?_)
      · have hf := ite_t c1 hf
        exact r_return h hq dX1_four_45 ⟨rfl, hf⟩
      · have hf := ite_f c1 hf
        refine r_aload_n h 0 dX1_four_7 rfl rfl ?_
        obtain ⟨k2, hf⟩ := hf
        obtain ⟨b3, e4, hf⟩ := hf
        refine g572 h dX1_four_8 k2 e4 ?_
        obtain ⟨k5, hf⟩ := hf
        obtain ⟨b6, e7, hf⟩ := hf
        refine g508 h dX1_four_11 k5 e7 ?_
        refine r_aload_n h 0 dX1_four_14 rfl rfl ?_
        obtain ⟨b8, e9, hf⟩ := hf
        refine g572 h dX1_four_15 k2 e9 ?_
        obtain ⟨k10, hf⟩ := hf
        refine g515 h dX1_four_18 k10 ?_
        refine r_iload_n h 1 dX1_four_21 rfl rfl ?_
        refine r_iload_n h 2 dX1_four_22 rfl rfl ?_
        refine r_ishr h dX1_four_23 ?_
        refine r_i2b h dX1_four_24 ?_
        obtain ⟨j11, hf⟩ := hf
        refine r_bastore h dX1_four_25 j11 ?_
        refine r_goW (fun M12 eM12 => ?_)
        have hf := hf M12 eM12
        refine r_aload_n h 0 dX1_four_26 rfl rfl ?_
        obtain ⟨k13, hf⟩ := hf
        obtain ⟨b14, e15, hf⟩ := hf
        refine g572 h dX1_four_27 k13 e15 ?_
        refine r_dup h dX1_four_30 rfl ?_
        obtain ⟨k16, hf⟩ := hf
        refine g515 h dX1_four_31 k16 ?_
        refine r_iconst (v := 1) h dX1_four_34 (by decide) ?_
        refine r_iadd h dX1_four_35 ?_
        refine p515 h dX1_four_36 k16 ?_
        refine r_goW (fun M17 eM17 => ?_)
        have hf := hf M17 eM17
        refine r_iinc (v := v2 + (-8)) (lv' := [(2, .int (v2 + (-8))), (0, .ref v0), (1, .int v1)]) h 2 dX1_four_39 rfl rfl (by decide) rfl ?_
        refine r_goto (tgt := 3) h dX1_four_42 (by decide) ?_
        exact V.sub [1, 2, 0] rfl hf)
  refine r_bipush (v := 24) h dX1_four_0 (by decide) ?_
  refine r_istore_n (lv' := [(2, .int 24), (0, .ref a0), (1, .int a1)]) h dX1_four_2 rfl (by decide) rfl ?_
  exact V.sub [1, 2, 0] rfl hf
theorem c626 {l : Launch} {G : gG} {X : gX} {cc : ByteArray} {nL F L bc bs pc : Nat} {M : gM} {lv : List (Nat × Value)} {rest : List Value} {a0 : Nat} {a1 : Int32} {K : gM → Prop} (hl : l.stackTraces = false) (h : hX l G X cc nL "GlacierMail" F L) (d : decode cc pc = .ok (.invokevirtual 121, 3)) (hk : kd M a0 = some (.inl 1)) (hf : f_X1_four a0 a1 M K) (hst : (rest.map fun v => v.category).sum ≤ 8) (hF : 1 ≤ F) (hL : 22 ≤ L) (kk : ∀ M1, K M1 → V l G X bc bs M1 (pc + 3) lv rest) : V l G X bc bs M pc lv (.int a1 :: .ref a0 :: rest) := r_callV (n := 1) (As := [.int a1]) h (m_X1_four hl hf) 1 rfl hk rfl ⟨by decide, by decide, by decide +kernel⟩ d q626 q628 qs1 q135 q629 rfl rfl hst hF hL (Nat.zero_le _) (Nat.zero_le _) (kV_go kk) kN_go
def f_X1_feed (a0 : Nat) (a1 : Int32) (a2 : Int32) (a3 : Int32) (a4 : Int32) (a5 : Int32) (M : gM) (K : Int32 → gM → Prop) : Prop :=
  kd M a0 = some (.inl 1) ∧ ∃ b2, rv M a0 0 = some b2 ∧ kd M b2 = some (.inl 2) ∧ if ((iv M b2 6) + 20) ≤ 400 then f_X1_four a0 a1 M (fun M6 => kd M6 a0 = some (.inl 1) ∧ f_X1_four a0 a2 M6 (fun M8 => kd M8 a0 = some (.inl 1) ∧ f_X1_four a0 a3 M8 (fun M10 => kd M10 a0 = some (.inl 1) ∧ f_X1_four a0 a4 M10 (fun M12 => kd M12 a0 = some (.inl 1) ∧ f_X1_four a0 a5 M12 (fun M14 => kd M14 a0 = some (.inl 1) ∧ ∃ b16, rv M14 a0 0 = some b16 ∧ kd M14 b16 = some (.inl 2) ∧ K (iv M14 b16 6) M14))))) else K (-1) M
set_option maxHeartbeats 4000000 in
theorem m_X1_feed {l : Launch} (hl : l.stackTraces = false) {G : gG} {a0 : Nat} {a1 : Int32} {a2 : Int32} {a3 : Int32} {a4 : Int32} {a5 : Int32} {M : gM} {K : Int32 → gM → Prop} (hf : f_X1_feed a0 a1 a2 a3 a4 a5 M K) : gMet l G yX1_feed (ws_ yX1_feed cX1_feed 6 (some Jvm.ClassFile.FieldType.int)) ({ frames := 1, cells := 0, slots := 0, locals := 22 }) M [.ref a0, .int a1, .int a2, .int a3, .int a4, .int a5] (kI K) kN := by
  refine gm_of hl (ret := (some Jvm.ClassFile.FieldType.int)) rfl (Nat.le_of_ble_eq_true rfl) (fun X h hq => ?_)
  have h : hX l G X cX1_feed 6 "GlacierMail" 1 22 := h
  have hf := hf
  show V l G X 0 0 M 0 [(0, .ref a0), (1, .int a1), (2, .int a2), (3, .int a3), (4, .int a4), (5, .int a5)] []
  unfold f_X1_feed at hf
  refine r_aload_n h 0 dX1_feed_0 rfl rfl ?_
  obtain ⟨k1, hf⟩ := hf
  obtain ⟨b2, e3, hf⟩ := hf
  refine g572 h dX1_feed_1 k1 e3 ?_
  obtain ⟨k4, hf⟩ := hf
  refine g515 h dX1_feed_4 k4 ?_
  refine r_bipush (v := 20) h dX1_feed_7 (by decide) ?_
  refine r_iadd h dX1_feed_9 ?_
  refine r_sipush (v := 400) h dX1_feed_10 (by decide) ?_
  refine r_icmp_le (tgt := 18) h dX1_feed_13 (by decide) (fun c5 => ?_) (fun c5 => ?_)
  · have hf := ite_t c5 hf
    refine r_aload_n h 0 dX1_feed_18 rfl rfl ?_
    refine r_iload_n h 1 dX1_feed_19 rfl rfl ?_
    refine c626 hl h dX1_feed_20 k1 hf (Nat.le_of_ble_eq_true rfl) (by decide) (by decide) (fun M6 hf => ?_)
    refine r_aload_n h 0 dX1_feed_23 rfl rfl ?_
    refine r_iload_n h 2 dX1_feed_24 rfl rfl ?_
    obtain ⟨k7, hf⟩ := hf
    refine c626 hl h dX1_feed_25 k7 hf (Nat.le_of_ble_eq_true rfl) (by decide) (by decide) (fun M8 hf => ?_)
    refine r_aload_n h 0 dX1_feed_28 rfl rfl ?_
    refine r_iload_n h 3 dX1_feed_29 rfl rfl ?_
    obtain ⟨k9, hf⟩ := hf
    refine c626 hl h dX1_feed_30 k9 hf (Nat.le_of_ble_eq_true rfl) (by decide) (by decide) (fun M10 hf => ?_)
    refine r_aload_n h 0 dX1_feed_33 rfl rfl ?_
    refine r_iload h 4 dX1_feed_34 rfl ?_
    obtain ⟨k11, hf⟩ := hf
    refine c626 hl h dX1_feed_36 k11 hf (Nat.le_of_ble_eq_true rfl) (by decide) (by decide) (fun M12 hf => ?_)
    refine r_aload_n h 0 dX1_feed_39 rfl rfl ?_
    refine r_iload h 5 dX1_feed_40 rfl ?_
    obtain ⟨k13, hf⟩ := hf
    refine c626 hl h dX1_feed_42 k13 hf (Nat.le_of_ble_eq_true rfl) (by decide) (by decide) (fun M14 hf => ?_)
    refine r_aload_n h 0 dX1_feed_45 rfl rfl ?_
    obtain ⟨k15, hf⟩ := hf
    obtain ⟨b16, e17, hf⟩ := hf
    refine g572 h dX1_feed_46 k15 e17 ?_
    obtain ⟨k18, hf⟩ := hf
    refine g515 h dX1_feed_49 k18 ?_
    exact r_ireturn h hq dX1_feed_52 ⟨_, rfl, hf⟩
  · have hf := ite_f c5 hf
    refine r_iconst (v := (-1)) h dX1_feed_16 (by decide) ?_
    exact r_ireturn h hq dX1_feed_17 ⟨_, rfl, hf⟩
theorem c622 {l : Launch} {G : gG} {X : gX} {cc : ByteArray} {nL F L bc bs pc : Nat} {M : gM} {lv : List (Nat × Value)} {rest : List Value} {a0 : Nat} {a1 : Int32} {a2 : Int32} {a3 : Int32} {a4 : Int32} {a5 : Int32} {K : Int32 → gM → Prop} (hl : l.stackTraces = false) (h : hX l G X cc nL "GlacierMailLaw" F L) (d : decode cc pc = .ok (.invokevirtual 139, 3)) (hk : kd M a0 = some (.inl 1)) (hf : f_X1_feed a0 a1 a2 a3 a4 a5 M K) (hst : (rest.map fun v => v.category).sum ≤ 8) (hF : 2 ≤ F) (hL : 47 ≤ L) (kk : ∀ x M1, K x M1 → V l G X bc bs M1 (pc + 3) lv (.int x :: rest)) : V l G X bc bs M pc lv (.int a5 :: .int a4 :: .int a3 :: .int a2 :: .int a1 :: .ref a0 :: rest) := r_callV (n := 5) (As := [.int a1, .int a2, .int a3, .int a4, .int a5]) h (m_X1_feed hl hf) 1 rfl hk rfl ⟨by decide, by decide, by decide +kernel⟩ d q622 q623 q624 q135 q625 rfl rfl hst hF hL (Nat.zero_le _) (Nat.zero_le _) (kI_go kk) kN_go
def f_X1_end (a0 : Nat) (a1 : Int32) (M : gM) (K : Int32 → gM → Prop) : Prop :=
  kd M a0 = some (.inl 1) ∧ ∃ b2, rv M a0 0 = some b2 ∧ kd M b2 = some (.inl 2) ∧ f_X1_isIn a1 0 (iv M b2 6) M (fun x6 M5 => if x6 = 0 then K 0 M5 else kd M5 a0 = some (.inl 1) ∧ ∃ b9, rv M5 a0 0 = some b9 ∧ kd M5 b9 = some (.inl 2) ∧ ∀ M12, M12 = sI M5 b9 6 a1 → K 1 M12)
set_option maxHeartbeats 4000000 in
theorem m_X1_end {l : Launch} (hl : l.stackTraces = false) {G : gG} {a0 : Nat} {a1 : Int32} {M : gM} {K : Int32 → gM → Prop} (hf : f_X1_end a0 a1 M K) : gMet l G yX1_end (ws_ yX1_end cX1_end 2 (some Jvm.ClassFile.FieldType.boolean)) ({ frames := 1, cells := 0, slots := 0, locals := 22 }) M [.ref a0, .int a1] (kI K) kN := by
  refine gm_of hl (ret := (some Jvm.ClassFile.FieldType.boolean)) rfl (Nat.le_of_ble_eq_true rfl) (fun X h hq => ?_)
  have h : hX l G X cX1_end 2 "GlacierMail" 1 22 := h
  have hf := hf
  show V l G X 0 0 M 0 [(0, .ref a0), (1, .int a1)] []
  unfold f_X1_end at hf
  refine r_iload_n h 1 dX1_end_0 rfl rfl ?_
  refine r_iconst (v := 0) h dX1_end_1 (by decide) ?_
  refine r_aload_n h 0 dX1_end_2 rfl rfl ?_
  obtain ⟨k1, hf⟩ := hf
  obtain ⟨b2, e3, hf⟩ := hf
  refine g572 h dX1_end_3 k1 e3 ?_
  obtain ⟨k4, hf⟩ := hf
  refine g515 h dX1_end_6 k4 ?_
  refine c634 hl h dX1_end_9 hf (Nat.le_of_ble_eq_true rfl) (by decide) (by decide) (fun x6 M5 hf => ?_)
  refine r_if_ne (tgt := 17) h dX1_end_12 (by decide) (fun c7 => ?_) (fun c7 => ?_)
  · have hf := ite_f c7 hf
    refine r_aload_n h 0 dX1_end_17 rfl rfl ?_
    obtain ⟨k8, hf⟩ := hf
    obtain ⟨b9, e10, hf⟩ := hf
    refine g572 h dX1_end_18 k8 e10 ?_
    refine r_iload_n h 1 dX1_end_21 rfl rfl ?_
    obtain ⟨k11, hf⟩ := hf
    refine p515 h dX1_end_22 k11 ?_
    refine r_goW (fun M12 eM12 => ?_)
    have hf := hf M12 eM12
    refine r_iconst (v := 1) h dX1_end_25 (by decide) ?_
    exact r_zreturn h hq dX1_end_26 (by decide) ⟨_, rfl, hf⟩
  · have hf := ite_t c7 hf
    refine r_iconst (v := 0) h dX1_end_15 (by decide) ?_
    exact r_zreturn h hq dX1_end_16 (by decide) ⟨_, rfl, hf⟩
theorem c630 {l : Launch} {G : gG} {X : gX} {cc : ByteArray} {nL F L bc bs pc : Nat} {M : gM} {lv : List (Nat × Value)} {rest : List Value} {a0 : Nat} {a1 : Int32} {K : Int32 → gM → Prop} (hl : l.stackTraces = false) (h : hX l G X cc nL "GlacierMailLaw" F L) (d : decode cc pc = .ok (.invokevirtual 144, 3)) (hk : kd M a0 = some (.inl 1)) (hf : f_X1_end a0 a1 M K) (hst : (rest.map fun v => v.category).sum ≤ 8) (hF : 2 ≤ F) (hL : 43 ≤ L) (kk : ∀ x M1, K x M1 → V l G X bc bs M1 (pc + 3) lv (.int x :: rest)) : V l G X bc bs M pc lv (.int a1 :: .ref a0 :: rest) := r_callV (n := 1) (As := [.int a1]) h (m_X1_end hl hf) 1 rfl hk rfl ⟨by decide, by decide, by decide +kernel⟩ d q630 q631 q632 q135 q633 rfl rfl hst hF hL (Nat.zero_le _) (Nat.zero_le _) (kI_go kk) kN_go
def f_X1_fault (a0 : Nat) (M : gM) (K : Int32 → gM → Prop) : Prop :=
  kd M a0 = some (.inl 1) ∧ K (iv M a0 11) M
set_option maxHeartbeats 4000000 in
theorem m_X1_fault {l : Launch} (hl : l.stackTraces = false) {G : gG} {a0 : Nat} {M : gM} {K : Int32 → gM → Prop} (hf : f_X1_fault a0 M K) : gMet l G yX1_fault (ws_ yX1_fault cX1_fault 1 (some Jvm.ClassFile.FieldType.int)) ({ frames := 0, cells := 0, slots := 0, locals := 0 }) M [.ref a0] (kI K) kN := by
  refine gm_of hl (ret := (some Jvm.ClassFile.FieldType.int)) rfl (Nat.le_of_ble_eq_true rfl) (fun X h hq => ?_)
  have h : hX l G X cX1_fault 1 "GlacierMail" 0 0 := h
  have hf := hf
  show V l G X 0 0 M 0 [(0, .ref a0)] []
  unfold f_X1_fault at hf
  refine r_aload_n h 0 dX1_fault_0 rfl rfl ?_
  obtain ⟨k1, hf⟩ := hf
  refine g584 h dX1_fault_1 k1 ?_
  exact r_ireturn h hq dX1_fault_4 ⟨_, rfl, hf⟩
theorem c637 {l : Launch} {G : gG} {X : gX} {cc : ByteArray} {nL F L bc bs pc : Nat} {M : gM} {lv : List (Nat × Value)} {rest : List Value} {a0 : Nat} {K : Int32 → gM → Prop} (hl : l.stackTraces = false) (h : hX l G X cc nL "GlacierMailLaw" F L) (d : decode cc pc = .ok (.invokevirtual 161, 3)) (hk : kd M a0 = some (.inl 1)) (hf : f_X1_fault a0 M K) (hst : (rest.map fun v => v.category).sum ≤ 8) (hF : 1 ≤ F) (hL : 20 ≤ L) (kk : ∀ x M1, K x M1 → V l G X bc bs M1 (pc + 3) lv (.int x :: rest)) : V l G X bc bs M pc lv (.ref a0 :: rest) := r_callV (n := 0) (As := []) h (m_X1_fault hl hf) 1 rfl hk rfl ⟨by decide, by decide, by decide +kernel⟩ d q637 q638 q639 q135 q640 rfl rfl hst hF hL (Nat.zero_le _) (Nat.zero_le _) (kI_go kk) kN_go
def f_X1_lost (a0 : Nat) (M : gM) (K : Int32 → gM → Prop) : Prop :=
  ∀ P4 : Nat → Int32 → Int32 → gM → Prop,
  (∀ (v0 : Nat) (v1 : Int32) (v2 : Int32) (M : gM), (kd M v0 = some (.inl 1) ∧ ∃ b2, rv M v0 1 = some b2 ∧ kd M b2 = some (.inl 3) ∧ if (iv M b2 14) ≤ v2 then K v1 M else f_X1_outOf v0 v2 M (fun x7 M6 => if x7 = 2147483647 then P4 v0 (v1 ||| ((1 : Int32) <<< (v2 &&& 31))) (v2 + 1) M6 else P4 v0 (v1 ||| 0) (v2 + 1) M6)) → P4 v0 v1 v2 M) →
  P4 a0 0 0 M
set_option maxHeartbeats 4000000 in
theorem m_X1_lost {l : Launch} (hl : l.stackTraces = false) {G : gG} {a0 : Nat} {M : gM} {K : Int32 → gM → Prop} (hf : f_X1_lost a0 M K) : gMet l G yX1_lost (ws_ yX1_lost cX1_lost 3 (some Jvm.ClassFile.FieldType.int)) ({ frames := 30, cells := 0, slots := 0, locals := 668 }) M [.ref a0] (kI K) kN := by
  refine gm_of hl (ret := (some Jvm.ClassFile.FieldType.int)) rfl (Nat.le_of_ble_eq_true rfl) (fun X h hq => ?_)
  have h : hX l G X cX1_lost 3 "GlacierMail" 30 668 := h
  have hf := hf
  show V l G X 0 0 M 0 [(0, .ref a0)] []
  have hf := hf
    (fun v0 v1 v2 M => V l G X 0 0 M 4 [(0, .ref v0), (1, .int v1), (2, .int v2)] [])
    (by
      intro v0 v1 v2 M hf
      show V l G X 0 0 M 4 [(0, .ref v0), (1, .int v1), (2, .int v2)] []
      refine r_iload_n h 2 dX1_lost_4 rfl rfl ?_
      refine r_aload_n h 0 dX1_lost_5 rfl rfl ?_
      obtain ⟨k1, hf⟩ := hf
      obtain ⟨b2, e3, hf⟩ := hf
      refine g573 h dX1_lost_6 k1 e3 ?_
      obtain ⟨k4, hf⟩ := hf
      refine g358 h dX1_lost_9 k4 ?_
      refine r_icmp_ge (tgt := 41) h dX1_lost_12 (by decide) (fun c5 => ?_) (fun c5 => ?_)
      · have hf := ite_t c5 hf
        refine r_iload_n h 1 dX1_lost_41 rfl rfl ?_
        exact r_ireturn h hq dX1_lost_42 ⟨_, rfl, hf⟩
      · have hf := ite_f c5 hf
        refine r_iload_n h 1 dX1_lost_15 rfl rfl ?_
        refine r_aload_n h 0 dX1_lost_16 rfl rfl ?_
        refine r_iload_n h 2 dX1_lost_17 rfl rfl ?_
        refine c645 hl h dX1_lost_18 k1 hf (Nat.le_of_ble_eq_true rfl) (by decide) (by decide) (fun x7 M6 hf => ?_)
        refine r_ldc (v := 2147483647) h dX1_lost_21 q743 ?_
        refine r_icmp_ne (tgt := 32) h dX1_lost_23 (by decide) (fun c8 => ?_) (fun c8 => ?_)
        · have hf := ite_f c8 hf
          refine r_iconst (v := 0) h dX1_lost_32 (by decide) ?_
          refine r_ior h dX1_lost_33 ?_
          refine r_istore_n (lv' := [(1, .int (v1 ||| 0)), (0, .ref v0), (2, .int v2)]) h dX1_lost_34 rfl (by decide) rfl ?_
          refine r_iinc (v := v2 + 1) (lv' := [(2, .int (v2 + 1)), (1, .int (v1 ||| 0)), (0, .ref v0)]) h 2 dX1_lost_35 rfl rfl (by decide) rfl ?_
          refine r_goto (tgt := 4) h dX1_lost_38 (by decide) ?_
          exact V.sub [2, 1, 0] rfl hf
        · have hf := ite_t c8 hf
          refine r_iconst (v := 1) h dX1_lost_26 (by decide) ?_
          refine r_iload_n h 2 dX1_lost_27 rfl rfl ?_
          refine r_ishl h dX1_lost_28 ?_
          refine r_goto (tgt := 33) h dX1_lost_29 (by decide) ?_
          refine r_ior h dX1_lost_33 ?_
          refine r_istore_n (lv' := [(1, .int (v1 ||| ((1 : Int32) <<< (v2 &&& 31)))), (0, .ref v0), (2, .int v2)]) h dX1_lost_34 rfl (by decide) rfl ?_
          refine r_iinc (v := v2 + 1) (lv' := [(2, .int (v2 + 1)), (1, .int (v1 ||| ((1 : Int32) <<< (v2 &&& 31)))), (0, .ref v0)]) h 2 dX1_lost_35 rfl rfl (by decide) rfl ?_
          refine r_goto (tgt := 4) h dX1_lost_38 (by decide) ?_
          exact V.sub [2, 1, 0] rfl hf)
  refine r_iconst (v := 0) h dX1_lost_0 (by decide) ?_
  refine r_istore_n (lv' := [(1, .int 0), (0, .ref a0)]) h dX1_lost_1 rfl (by decide) rfl ?_
  refine r_iconst (v := 0) h dX1_lost_2 (by decide) ?_
  refine r_istore_n (lv' := [(2, .int 0), (1, .int 0), (0, .ref a0)]) h dX1_lost_3 rfl (by decide) rfl ?_
  exact V.sub [2, 1, 0] rfl hf
theorem c641 {l : Launch} {G : gG} {X : gX} {cc : ByteArray} {nL F L bc bs pc : Nat} {M : gM} {lv : List (Nat × Value)} {rest : List Value} {a0 : Nat} {K : Int32 → gM → Prop} (hl : l.stackTraces = false) (h : hX l G X cc nL "GlacierMailLaw" F L) (d : decode cc pc = .ok (.invokevirtual 217, 3)) (hk : kd M a0 = some (.inl 1)) (hf : f_X1_lost a0 M K) (hst : (rest.map fun v => v.category).sum ≤ 8) (hF : 31 ≤ F) (hL : 690 ≤ L) (kk : ∀ x M1, K x M1 → V l G X bc bs M1 (pc + 3) lv (.int x :: rest)) : V l G X bc bs M pc lv (.ref a0 :: rest) := r_callV (n := 0) (As := []) h (m_X1_lost hl hf) 1 rfl hk rfl ⟨by decide, by decide, by decide +kernel⟩ d q641 q642 q643 q135 q644 rfl rfl hst hF hL (Nat.zero_le _) (Nat.zero_le _) (kI_go kk) kN_go
def f_X1_market (a0 : Nat) (a1 : Int32) (M : gM) (K : Int32 → gM → Prop) : Prop :=
  ∀ P2 : Nat → Int32 → Int32 → gM → Prop,
  ∀ P57 : Nat → Int32 → Int32 → Int32 → Int32 → gM → Prop,
  ∀ P71 : Nat → Int32 → Int32 → Int32 → Int32 → Int32 → Int32 → gM → Prop,
  (∀ (v0 : Nat) (v1 : Int32) (v2 : Int32) (M : gM), (kd M v0 = some (.inl 1) ∧ ∃ b2, rv M v0 1 = some b2 ∧ kd M b2 = some (.inl 3) ∧ if (iv M b2 14) ≤ v2 then P57 v0 v1 (-1) 0 0 M else ∃ b6, rv M v0 7 = some b6 ∧ ∃ b8, rv M v0 1 = some b8 ∧ kd M b8 = some (.inl 3) ∧ ∃ b11, rv M b8 3 = some b11 ∧ inA M b11 8 v2 ∧ ∃ b14, rv M b11 (ix v2) = some b14 ∧ kd M b14 = some (.inl 7) ∧ f_X7_isRock b14 M (fun x18 M17 => if x18 = 0 then kd M17 v0 = some (.inl 1) ∧ f_X1_outOf v0 v2 M17 (fun x22 M21 => inA M21 b6 0 v2 ∧ ∀ M24, M24 = sI M21 b6 (ix v2) x22 → P2 v0 v1 (v2 + 1) M24) else inA M17 b6 0 v2 ∧ ∀ M26, M26 = sI M17 b6 (ix v2) 2147483647 → P2 v0 v1 (v2 + 1) M26)) → P2 v0 v1 v2 M) →
  (∀ (v0 : Nat) (v1 : Int32) (v2 : Int32) (v3 : Int32) (v4 : Int32) (M : gM), (if 300 ≤ v4 then if v1 = 0 then K v2 M else K v3 M else P71 v0 v1 v2 v3 v4 0 0 M) → P57 v0 v1 v2 v3 v4 M) →
  (∀ (v0 : Nat) (v1 : Int32) (v2 : Int32) (v3 : Int32) (v4 : Int32) (v5 : Int32) (v6 : Int32) (M : gM), (kd M v0 = some (.inl 1) ∧ ∃ b30, rv M v0 1 = some b30 ∧ kd M b30 = some (.inl 3) ∧ if (iv M b30 14) ≤ v6 then if v3 < v5 then P57 v0 v1 v4 v5 (v4 + 1) M else P57 v0 v1 v2 v3 (v4 + 1) M else ∃ b35, rv M v0 7 = some b35 ∧ inA M b35 0 v6 ∧ if (iv M b35 (ix v6)) = v4 then P71 v0 v1 v2 v3 v4 (v5 + 1) (v6 + 1) M else P71 v0 v1 v2 v3 v4 (v5 + 0) (v6 + 1) M) → P71 v0 v1 v2 v3 v4 v5 v6 M) →
  P2 a0 a1 0 M
set_option maxHeartbeats 4000000 in
theorem m_X1_market {l : Launch} (hl : l.stackTraces = false) {G : gG} {a0 : Nat} {a1 : Int32} {M : gM} {K : Int32 → gM → Prop} (hf : f_X1_market a0 a1 M K) : gMet l G yX1_market (ws_ yX1_market cX1_market 7 (some Jvm.ClassFile.FieldType.int)) ({ frames := 30, cells := 0, slots := 0, locals := 668 }) M [.ref a0, .int a1] (kI K) kN := by
  refine gm_of hl (ret := (some Jvm.ClassFile.FieldType.int)) rfl (Nat.le_of_ble_eq_true rfl) (fun X h hq => ?_)
  have h : hX l G X cX1_market 7 "GlacierMail" 30 668 := h
  have hf := hf
  show V l G X 0 0 M 0 [(0, .ref a0), (1, .int a1)] []
  have hf := hf
    (fun v0 v1 v2 M => V l G X 0 0 M 2 [(0, .ref v0), (1, .int v1), (2, .int v2)] [])
    (fun v0 v1 v2 v3 v4 M => V l G X 0 0 M 57 [(0, .ref v0), (1, .int v1), (2, .int v2), (3, .int v3), (4, .int v4)] [])
    (fun v0 v1 v2 v3 v4 v5 v6 M => V l G X 0 0 M 71 [(0, .ref v0), (1, .int v1), (2, .int v2), (3, .int v3), (4, .int v4), (5, .int v5), (6, .int v6)] [])
    (by
      intro v0 v1 v2 M hf
      show V l G X 0 0 M 2 [(0, .ref v0), (1, .int v1), (2, .int v2)] []
      refine r_iload_n h 2 dX1_market_2 rfl rfl ?_
      refine r_aload_n h 0 dX1_market_3 rfl rfl ?_
      obtain ⟨k1, hf⟩ := hf
      obtain ⟨b2, e3, hf⟩ := hf
      refine g573 h dX1_market_4 k1 e3 ?_
      obtain ⟨k4, hf⟩ := hf
      refine g358 h dX1_market_7 k4 ?_
      refine r_icmp_ge (tgt := 50) h dX1_market_10 (by decide) (fun c5 => ?_) (fun c5 => ?_)
      · have hf := ite_t c5 hf
        refine r_iconst (v := (-1)) h dX1_market_50 (by decide) ?_
        refine r_istore_n (lv' := [(2, .int (-1)), (0, .ref v0), (1, .int v1)]) h dX1_market_51 rfl (by decide) rfl ?_
        refine r_iconst (v := 0) h dX1_market_52 (by decide) ?_
        refine r_istore_n (lv' := [(3, .int 0), (2, .int (-1)), (0, .ref v0), (1, .int v1)]) h dX1_market_53 rfl (by decide) rfl ?_
        refine r_iconst (v := 0) h dX1_market_54 (by decide) ?_
        refine r_istore (lv' := [(4, .int 0), (3, .int 0), (2, .int (-1)), (0, .ref v0), (1, .int v1)]) h dX1_market_55 (by decide) rfl ?_
        exact V.sub [3, 4, 2, 1, 0] rfl hf
      · have hf := ite_f c5 hf
        refine r_aload_n h 0 dX1_market_13 rfl rfl ?_
        obtain ⟨b6, e7, hf⟩ := hf
        refine g580 h dX1_market_14 k1 e7 ?_
        refine r_iload_n h 2 dX1_market_17 rfl rfl ?_
        refine r_aload_n h 0 dX1_market_18 rfl rfl ?_
        obtain ⟨b8, e9, hf⟩ := hf
        refine g573 h dX1_market_19 k1 e9 ?_
        obtain ⟨k10, hf⟩ := hf
        obtain ⟨b11, e12, hf⟩ := hf
        refine g329 h dX1_market_22 k10 e12 ?_
        refine r_iload_n h 2 dX1_market_25 rfl rfl ?_
        obtain ⟨j13, b14, e15, hf⟩ := hf
        refine r_aaload h 8 (by decide) (by decide) dX1_market_26 j13 (v := .ref b14) (by rw [e15]; rfl) ?_
        obtain ⟨k16, hf⟩ := hf
        refine c748 hl h dX1_market_27 k16 hf (Nat.le_of_ble_eq_true rfl) (by decide) (by decide) (fun x18 M17 hf => ?_)
        refine r_if_eq (tgt := 38) h dX1_market_30 (by decide) (fun c19 => ?_) (fun c19 => ?_)
        · have hf := ite_t c19 hf
          refine r_aload_n h 0 dX1_market_38 rfl rfl ?_
          refine r_iload_n h 2 dX1_market_39 rfl rfl ?_
          obtain ⟨k20, hf⟩ := hf
          refine c645 hl h dX1_market_40 k20 hf (Nat.le_of_ble_eq_true rfl) (by decide) (by decide) (fun x22 M21 hf => ?_)
          obtain ⟨j23, hf⟩ := hf
          refine r_iastore h dX1_market_43 j23 ?_
          refine r_goW (fun M24 eM24 => ?_)
          have hf := hf M24 eM24
          refine r_iinc (v := v2 + 1) (lv' := [(2, .int (v2 + 1)), (0, .ref v0), (1, .int v1)]) h 2 dX1_market_44 rfl rfl (by decide) rfl ?_
          refine r_goto (tgt := 2) h dX1_market_47 (by decide) ?_
          exact V.sub [1, 2, 0] rfl hf
        · have hf := ite_f c19 hf
          refine r_ldc (v := 2147483647) h dX1_market_33 q743 ?_
          refine r_goto (tgt := 43) h dX1_market_35 (by decide) ?_
          obtain ⟨j25, hf⟩ := hf
          refine r_iastore h dX1_market_43 j25 ?_
          refine r_goW (fun M26 eM26 => ?_)
          have hf := hf M26 eM26
          refine r_iinc (v := v2 + 1) (lv' := [(2, .int (v2 + 1)), (0, .ref v0), (1, .int v1)]) h 2 dX1_market_44 rfl rfl (by decide) rfl ?_
          refine r_goto (tgt := 2) h dX1_market_47 (by decide) ?_
          exact V.sub [1, 2, 0] rfl hf)
    (by
      intro v0 v1 v2 v3 v4 M hf
      show V l G X 0 0 M 57 [(0, .ref v0), (1, .int v1), (2, .int v2), (3, .int v3), (4, .int v4)] []
      refine r_iload h 4 dX1_market_57 rfl ?_
      refine r_sipush (v := 300) h dX1_market_59 (by decide) ?_
      refine r_icmp_ge (tgt := 132) h dX1_market_62 (by decide) (fun c27 => ?_) (fun c27 => ?_)
      · have hf := ite_t c27 hf
        refine r_iload_n h 1 dX1_market_132 rfl rfl ?_
        refine r_if_eq (tgt := 140) h dX1_market_133 (by decide) (fun c28 => ?_) (fun c28 => ?_)
        · have hf := ite_t c28 hf
          refine r_iload_n h 2 dX1_market_140 rfl rfl ?_
          exact r_ireturn h hq dX1_market_141 ⟨_, rfl, hf⟩
        · have hf := ite_f c28 hf
          refine r_iload_n h 3 dX1_market_136 rfl rfl ?_
          refine r_goto (tgt := 141) h dX1_market_137 (by decide) ?_
          exact r_ireturn h hq dX1_market_141 ⟨_, rfl, hf⟩
      · have hf := ite_f c27 hf
        refine r_iconst (v := 0) h dX1_market_65 (by decide) ?_
        refine r_istore (lv' := [(5, .int 0), (0, .ref v0), (1, .int v1), (2, .int v2), (3, .int v3), (4, .int v4)]) h dX1_market_66 (by decide) rfl ?_
        refine r_iconst (v := 0) h dX1_market_68 (by decide) ?_
        refine r_istore (lv' := [(6, .int 0), (5, .int 0), (0, .ref v0), (1, .int v1), (2, .int v2), (3, .int v3), (4, .int v4)]) h dX1_market_69 (by decide) rfl ?_
        exact V.sub [2, 3, 4, 5, 6, 1, 0] rfl hf)
    (by
      intro v0 v1 v2 v3 v4 v5 v6 M hf
      show V l G X 0 0 M 71 [(0, .ref v0), (1, .int v1), (2, .int v2), (3, .int v3), (4, .int v4), (5, .int v5), (6, .int v6)] []
      refine r_iload h 6 dX1_market_71 rfl ?_
      refine r_aload_n h 0 dX1_market_73 rfl rfl ?_
      obtain ⟨k29, hf⟩ := hf
      obtain ⟨b30, e31, hf⟩ := hf
      refine g573 h dX1_market_74 k29 e31 ?_
      obtain ⟨k32, hf⟩ := hf
      refine g358 h dX1_market_77 k32 ?_
      refine r_icmp_ge (tgt := 111) h dX1_market_80 (by decide) (fun c33 => ?_) (fun c33 => ?_)
      · have hf := ite_t c33 hf
        refine r_iload h 5 dX1_market_111 rfl ?_
        refine r_iload_n h 3 dX1_market_113 rfl rfl ?_
        refine r_icmp_gt (tgt := 120) h dX1_market_114 (by decide) (fun c34 => ?_) (fun c34 => ?_)
        · have hf := ite_t c34 hf
          refine r_iload h 5 dX1_market_120 rfl ?_
          refine r_istore_n (lv' := [(3, .int v5), (0, .ref v0), (1, .int v1), (2, .int v2), (4, .int v4), (5, .int v5), (6, .int v6)]) h dX1_market_122 rfl (by decide) rfl ?_
          refine r_iload h 4 dX1_market_123 rfl ?_
          refine r_istore_n (lv' := [(2, .int v4), (3, .int v5), (0, .ref v0), (1, .int v1), (4, .int v4), (5, .int v5), (6, .int v6)]) h dX1_market_125 rfl (by decide) rfl ?_
          refine r_iinc (v := v4 + 1) (lv' := [(4, .int (v4 + 1)), (2, .int v4), (3, .int v5), (0, .ref v0), (1, .int v1), (5, .int v5), (6, .int v6)]) h 4 dX1_market_126 rfl rfl (by decide) rfl ?_
          refine r_goto (tgt := 57) h dX1_market_129 (by decide) ?_
          exact V.sub [3, 4, 1, 2, 0] rfl hf
        · have hf := ite_f c34 hf
          refine r_goto (tgt := 126) h dX1_market_117 (by decide) ?_
          refine r_iinc (v := v4 + 1) (lv' := [(4, .int (v4 + 1)), (0, .ref v0), (1, .int v1), (2, .int v2), (3, .int v3), (5, .int v5), (6, .int v6)]) h 4 dX1_market_126 rfl rfl (by decide) rfl ?_
          refine r_goto (tgt := 57) h dX1_market_129 (by decide) ?_
          exact V.sub [1, 2, 3, 4, 0] rfl hf
      · have hf := ite_f c33 hf
        refine r_iload h 5 dX1_market_83 rfl ?_
        refine r_aload_n h 0 dX1_market_85 rfl rfl ?_
        obtain ⟨b35, e36, hf⟩ := hf
        refine g580 h dX1_market_86 k29 e36 ?_
        refine r_iload h 6 dX1_market_89 rfl ?_
        obtain ⟨j37, hf⟩ := hf
        refine r_iaload h dX1_market_91 j37 ?_
        refine r_iload h 4 dX1_market_92 rfl ?_
        refine r_icmp_ne (tgt := 101) h dX1_market_94 (by decide) (fun c38 => ?_) (fun c38 => ?_)
        · have hf := ite_f c38 hf
          refine r_iconst (v := 0) h dX1_market_101 (by decide) ?_
          refine r_iadd h dX1_market_102 ?_
          refine r_istore (lv' := [(5, .int (v5 + 0)), (0, .ref v0), (1, .int v1), (2, .int v2), (3, .int v3), (4, .int v4), (6, .int v6)]) h dX1_market_103 (by decide) rfl ?_
          refine r_iinc (v := v6 + 1) (lv' := [(6, .int (v6 + 1)), (5, .int (v5 + 0)), (0, .ref v0), (1, .int v1), (2, .int v2), (3, .int v3), (4, .int v4)]) h 6 dX1_market_105 rfl rfl (by decide) rfl ?_
          refine r_goto (tgt := 71) h dX1_market_108 (by decide) ?_
          exact V.sub [2, 3, 4, 5, 6, 1, 0] rfl hf
        · have hf := ite_t c38 hf
          refine r_iconst (v := 1) h dX1_market_97 (by decide) ?_
          refine r_goto (tgt := 102) h dX1_market_98 (by decide) ?_
          refine r_iadd h dX1_market_102 ?_
          refine r_istore (lv' := [(5, .int (v5 + 1)), (0, .ref v0), (1, .int v1), (2, .int v2), (3, .int v3), (4, .int v4), (6, .int v6)]) h dX1_market_103 (by decide) rfl ?_
          refine r_iinc (v := v6 + 1) (lv' := [(6, .int (v6 + 1)), (5, .int (v5 + 1)), (0, .ref v0), (1, .int v1), (2, .int v2), (3, .int v3), (4, .int v4)]) h 6 dX1_market_105 rfl rfl (by decide) rfl ?_
          refine r_goto (tgt := 71) h dX1_market_108 (by decide) ?_
          exact V.sub [2, 3, 4, 5, 6, 1, 0] rfl hf)
  refine r_iconst (v := 0) h dX1_market_0 (by decide) ?_
  refine r_istore_n (lv' := [(2, .int 0), (0, .ref a0), (1, .int a1)]) h dX1_market_1 rfl (by decide) rfl ?_
  exact V.sub [1, 2, 0] rfl hf
theorem c744 {l : Launch} {G : gG} {X : gX} {cc : ByteArray} {nL F L bc bs pc : Nat} {M : gM} {lv : List (Nat × Value)} {rest : List Value} {a0 : Nat} {a1 : Int32} {K : Int32 → gM → Prop} (hl : l.stackTraces = false) (h : hX l G X cc nL "GlacierMailLaw" F L) (d : decode cc pc = .ok (.invokevirtual 221, 3)) (hk : kd M a0 = some (.inl 1)) (hf : f_X1_market a0 a1 M K) (hst : (rest.map fun v => v.category).sum ≤ 8) (hF : 31 ≤ F) (hL : 694 ≤ L) (kk : ∀ x M1, K x M1 → V l G X bc bs M1 (pc + 3) lv (.int x :: rest)) : V l G X bc bs M pc lv (.int a1 :: .ref a0 :: rest) := r_callV (n := 1) (As := [.int a1]) h (m_X1_market hl hf) 1 rfl hk rfl ⟨by decide, by decide, by decide +kernel⟩ d q744 q745 q746 q135 q747 rfl rfl hst hF hL (Nat.zero_le _) (Nat.zero_le _) (kI_go kk) kN_go
def f_X1_poles (a0 : Nat) (M : gM) (K : Int32 → gM → Prop) : Prop :=
  ∀ P4 : Nat → Int32 → Int32 → gM → Prop,
  ∀ P41 : Nat → Int32 → Int32 → Int32 → Int32 → gM → Prop,
  ∀ P56 : Nat → Int32 → Int32 → Int32 → Int32 → Int32 → gM → Prop,
  (∀ (v0 : Nat) (v1 : Int32) (v2 : Int32) (M : gM), (kd M v0 = some (.inl 1) ∧ ∃ b2, rv M v0 1 = some b2 ∧ kd M b2 = some (.inl 3) ∧ if ((1 : Int32) <<< ((iv M b2 9) &&& 31)) ≤ v2 then K v1 M else if v1 = (-1) then P41 v0 v1 v2 1 0 M else f_J14_bitCount v2 M (fun x8 M7 => f_J14_bitCount v1 M7 (fun x10 M9 => if x8 < x10 then P41 v0 v1 v2 1 0 M9 else P4 v0 v1 (v2 + 1) M9))) → P4 v0 v1 v2 M) →
  (∀ (v0 : Nat) (v1 : Int32) (v2 : Int32) (v3 : Int32) (v4 : Int32) (M : gM), (kd M v0 = some (.inl 1) ∧ ∃ b13, rv M v0 1 = some b13 ∧ kd M b13 = some (.inl 3) ∧ if (iv M b13 15) ≤ v4 then if v3 = 0 then P4 v0 v1 (v2 + 1) M else P4 v0 v2 (v2 + 1) M else P56 v0 v1 v2 v3 v4 0 M) → P41 v0 v1 v2 v3 v4 M) →
  (∀ (v0 : Nat) (v1 : Int32) (v2 : Int32) (v3 : Int32) (v4 : Int32) (v5 : Int32) (M : gM), (if v4 ≤ v5 then P41 v0 v1 v2 v3 (v4 + 1) M else if v3 = 0 then P56 v0 v1 v2 0 v4 (v5 + 1) M else kd M v0 = some (.inl 1) ∧ ∃ b21, rv M v0 1 = some b21 ∧ kd M b21 = some (.inl 3) ∧ ∃ b24, rv M b21 4 = some b24 ∧ inA M b24 5 v4 ∧ ∃ b27, rv M b24 (ix v4) = some b27 ∧ ∃ b29, rv M v0 1 = some b29 ∧ kd M b29 = some (.inl 3) ∧ ∃ b32, rv M b29 4 = some b32 ∧ inA M b32 5 v5 ∧ ∃ b35, rv M b32 (ix v5) = some b35 ∧ f_X1_areApart v0 b27 b35 v2 M (fun x38 M37 => if x38 = 0 then P56 v0 v1 v2 0 v4 (v5 + 1) M37 else P56 v0 v1 v2 1 v4 (v5 + 1) M37)) → P56 v0 v1 v2 v3 v4 v5 M) →
  P4 a0 (-1) 0 M
set_option maxHeartbeats 4000000 in
theorem m_X1_poles {l : Launch} (hl : l.stackTraces = false) {G : gG} {a0 : Nat} {M : gM} {K : Int32 → gM → Prop} (hf : f_X1_poles a0 M K) : gMet l G yX1_poles (ws_ yX1_poles cX1_poles 6 (some Jvm.ClassFile.FieldType.int)) ({ frames := 1, cells := 0, slots := 0, locals := 24 }) M [.ref a0] (kI K) kN := by
  refine gm_of hl (ret := (some Jvm.ClassFile.FieldType.int)) rfl (Nat.le_of_ble_eq_true rfl) (fun X h hq => ?_)
  have h : hX l G X cX1_poles 6 "GlacierMail" 1 24 := h
  have hf := hf
  show V l G X 0 0 M 0 [(0, .ref a0)] []
  have hf := hf
    (fun v0 v1 v2 M => V l G X 0 0 M 4 [(0, .ref v0), (1, .int v1), (2, .int v2)] [])
    (fun v0 v1 v2 v3 v4 M => V l G X 0 0 M 41 [(0, .ref v0), (1, .int v1), (2, .int v2), (3, .int v3), (4, .int v4)] [])
    (fun v0 v1 v2 v3 v4 v5 M => V l G X 0 0 M 56 [(0, .ref v0), (1, .int v1), (2, .int v2), (3, .int v3), (4, .int v4), (5, .int v5)] [])
    (by
      intro v0 v1 v2 M hf
      show V l G X 0 0 M 4 [(0, .ref v0), (1, .int v1), (2, .int v2)] []
      refine r_iload_n h 2 dX1_poles_4 rfl rfl ?_
      refine r_iconst (v := 1) h dX1_poles_5 (by decide) ?_
      refine r_aload_n h 0 dX1_poles_6 rfl rfl ?_
      obtain ⟨k1, hf⟩ := hf
      obtain ⟨b2, e3, hf⟩ := hf
      refine g573 h dX1_poles_7 k1 e3 ?_
      obtain ⟨k4, hf⟩ := hf
      refine g342 h dX1_poles_10 k4 ?_
      refine r_ishl h dX1_poles_13 ?_
      refine r_icmp_ge (tgt := 125) h dX1_poles_14 (by decide) (fun c5 => ?_) (fun c5 => ?_)
      · have hf := ite_t c5 hf
        refine r_iload_n h 1 dX1_poles_125 rfl rfl ?_
        exact r_ireturn h hq dX1_poles_126 ⟨_, rfl, hf⟩
      · have hf := ite_f c5 hf
        refine r_iload_n h 1 dX1_poles_17 rfl rfl ?_
        refine r_iconst (v := (-1)) h dX1_poles_18 (by decide) ?_
        refine r_icmp_eq (tgt := 36) h dX1_poles_19 (by decide) (fun c6 => ?_) (fun c6 => ?_)
        · have hf := ite_t c6 hf
          refine r_iconst (v := 1) h dX1_poles_36 (by decide) ?_
          refine r_istore_n (lv' := [(3, .int 1), (0, .ref v0), (1, .int v1), (2, .int v2)]) h dX1_poles_37 rfl (by decide) rfl ?_
          refine r_iconst (v := 0) h dX1_poles_38 (by decide) ?_
          refine r_istore (lv' := [(4, .int 0), (3, .int 1), (0, .ref v0), (1, .int v1), (2, .int v2)]) h dX1_poles_39 (by decide) rfl ?_
          exact V.sub [2, 3, 4, 1, 0] rfl hf
        · have hf := ite_f c6 hf
          refine r_iload_n h 2 dX1_poles_22 rfl rfl ?_
          refine c753 hl h dX1_poles_23 hf (Nat.le_of_ble_eq_true rfl) (by decide) (by decide) (fun x8 M7 hf => ?_)
          refine r_iload_n h 1 dX1_poles_26 rfl rfl ?_
          refine c753 hl h dX1_poles_27 hf (Nat.le_of_ble_eq_true rfl) (by decide) (by decide) (fun x10 M9 hf => ?_)
          refine r_icmp_lt (tgt := 36) h dX1_poles_30 (by decide) (fun c11 => ?_) (fun c11 => ?_)
          · have hf := ite_t c11 hf
            refine r_iconst (v := 1) h dX1_poles_36 (by decide) ?_
            refine r_istore_n (lv' := [(3, .int 1), (0, .ref v0), (1, .int v1), (2, .int v2)]) h dX1_poles_37 rfl (by decide) rfl ?_
            refine r_iconst (v := 0) h dX1_poles_38 (by decide) ?_
            refine r_istore (lv' := [(4, .int 0), (3, .int 1), (0, .ref v0), (1, .int v1), (2, .int v2)]) h dX1_poles_39 (by decide) rfl ?_
            exact V.sub [2, 3, 4, 1, 0] rfl hf
          · have hf := ite_f c11 hf
            refine r_goto (tgt := 119) h dX1_poles_33 (by decide) ?_
            refine r_iinc (v := v2 + 1) (lv' := [(2, .int (v2 + 1)), (0, .ref v0), (1, .int v1)]) h 2 dX1_poles_119 rfl rfl (by decide) rfl ?_
            refine r_goto (tgt := 4) h dX1_poles_122 (by decide) ?_
            exact V.sub [1, 2, 0] rfl hf)
    (by
      intro v0 v1 v2 v3 v4 M hf
      show V l G X 0 0 M 41 [(0, .ref v0), (1, .int v1), (2, .int v2), (3, .int v3), (4, .int v4)] []
      refine r_iload h 4 dX1_poles_41 rfl ?_
      refine r_aload_n h 0 dX1_poles_43 rfl rfl ?_
      obtain ⟨k12, hf⟩ := hf
      obtain ⟨b13, e14, hf⟩ := hf
      refine g573 h dX1_poles_44 k12 e14 ?_
      obtain ⟨k15, hf⟩ := hf
      refine g362 h dX1_poles_47 k15 ?_
      refine r_icmp_ge (tgt := 113) h dX1_poles_50 (by decide) (fun c16 => ?_) (fun c16 => ?_)
      · have hf := ite_t c16 hf
        refine r_iload_n h 3 dX1_poles_113 rfl rfl ?_
        refine r_if_eq (tgt := 119) h dX1_poles_114 (by decide) (fun c17 => ?_) (fun c17 => ?_)
        · have hf := ite_t c17 hf
          refine r_iinc (v := v2 + 1) (lv' := [(2, .int (v2 + 1)), (0, .ref v0), (1, .int v1), (3, .int v3), (4, .int v4)]) h 2 dX1_poles_119 rfl rfl (by decide) rfl ?_
          refine r_goto (tgt := 4) h dX1_poles_122 (by decide) ?_
          exact V.sub [1, 2, 0] rfl hf
        · have hf := ite_f c17 hf
          refine r_iload_n h 2 dX1_poles_117 rfl rfl ?_
          refine r_istore_n (lv' := [(1, .int v2), (0, .ref v0), (2, .int v2), (3, .int v3), (4, .int v4)]) h dX1_poles_118 rfl (by decide) rfl ?_
          refine r_iinc (v := v2 + 1) (lv' := [(2, .int (v2 + 1)), (1, .int v2), (0, .ref v0), (3, .int v3), (4, .int v4)]) h 2 dX1_poles_119 rfl rfl (by decide) rfl ?_
          refine r_goto (tgt := 4) h dX1_poles_122 (by decide) ?_
          exact V.sub [2, 1, 0] rfl hf
      · have hf := ite_f c16 hf
        refine r_iconst (v := 0) h dX1_poles_53 (by decide) ?_
        refine r_istore (lv' := [(5, .int 0), (0, .ref v0), (1, .int v1), (2, .int v2), (3, .int v3), (4, .int v4)]) h dX1_poles_54 (by decide) rfl ?_
        exact V.sub [1, 2, 3, 4, 5, 0] rfl hf)
    (by
      intro v0 v1 v2 v3 v4 v5 M hf
      show V l G X 0 0 M 56 [(0, .ref v0), (1, .int v1), (2, .int v2), (3, .int v3), (4, .int v4), (5, .int v5)] []
      refine r_iload h 5 dX1_poles_56 rfl ?_
      refine r_iload h 4 dX1_poles_58 rfl ?_
      refine r_icmp_ge (tgt := 107) h dX1_poles_60 (by decide) (fun c18 => ?_) (fun c18 => ?_)
      · have hf := ite_t c18 hf
        refine r_iinc (v := v4 + 1) (lv' := [(4, .int (v4 + 1)), (0, .ref v0), (1, .int v1), (2, .int v2), (3, .int v3), (5, .int v5)]) h 4 dX1_poles_107 rfl rfl (by decide) rfl ?_
        refine r_goto (tgt := 41) h dX1_poles_110 (by decide) ?_
        exact V.sub [1, 2, 3, 4, 0] rfl hf
      · have hf := ite_f c18 hf
        refine r_iload_n h 3 dX1_poles_63 rfl rfl ?_
        refine r_if_eq (tgt := 99) h dX1_poles_64 (by decide) (fun c19 => ?_) (fun c19 => ?_)
        · have hf := ite_t c19 hf
          refine r_iconst (v := 0) h dX1_poles_99 (by decide) ?_
          refine r_istore_n (lv' := [(3, .int 0), (0, .ref v0), (1, .int v1), (2, .int v2), (4, .int v4), (5, .int v5)]) h dX1_poles_100 rfl (by decide) rfl ?_
          refine r_iinc (v := v5 + 1) (lv' := [(5, .int (v5 + 1)), (3, .int 0), (0, .ref v0), (1, .int v1), (2, .int v2), (4, .int v4)]) h 5 dX1_poles_101 rfl rfl (by decide) rfl ?_
          refine r_goto (tgt := 56) h dX1_poles_104 (by decide) ?_
          exact V.sub [2, 3, 4, 1, 5, 0] rfl hf
        · have hf := ite_f c19 hf
          refine r_aload_n h 0 dX1_poles_67 rfl rfl ?_
          refine r_aload_n h 0 dX1_poles_68 rfl rfl ?_
          obtain ⟨k20, hf⟩ := hf
          obtain ⟨b21, e22, hf⟩ := hf
          refine g573 h dX1_poles_69 k20 e22 ?_
          obtain ⟨k23, hf⟩ := hf
          obtain ⟨b24, e25, hf⟩ := hf
          refine g333 h dX1_poles_72 k23 e25 ?_
          refine r_iload h 4 dX1_poles_75 rfl ?_
          obtain ⟨j26, b27, e28, hf⟩ := hf
          refine r_aaload h 5 (by decide) (by decide) dX1_poles_77 j26 (v := .ref b27) (by rw [e28]; rfl) ?_
          refine r_aload_n h 0 dX1_poles_78 rfl rfl ?_
          obtain ⟨b29, e30, hf⟩ := hf
          refine g573 h dX1_poles_79 k20 e30 ?_
          obtain ⟨k31, hf⟩ := hf
          obtain ⟨b32, e33, hf⟩ := hf
          refine g333 h dX1_poles_82 k31 e33 ?_
          refine r_iload h 5 dX1_poles_85 rfl ?_
          obtain ⟨j34, b35, e36, hf⟩ := hf
          refine r_aaload h 5 (by decide) (by decide) dX1_poles_87 j34 (v := .ref b35) (by rw [e36]; rfl) ?_
          refine r_iload_n h 2 dX1_poles_88 rfl rfl ?_
          refine c759 hl h dX1_poles_89 k20 hf (Nat.le_of_ble_eq_true rfl) (by decide) (by decide) (fun x38 M37 hf => ?_)
          refine r_if_eq (tgt := 99) h dX1_poles_92 (by decide) (fun c39 => ?_) (fun c39 => ?_)
          · have hf := ite_t c39 hf
            refine r_iconst (v := 0) h dX1_poles_99 (by decide) ?_
            refine r_istore_n (lv' := [(3, .int 0), (0, .ref v0), (1, .int v1), (2, .int v2), (4, .int v4), (5, .int v5)]) h dX1_poles_100 rfl (by decide) rfl ?_
            refine r_iinc (v := v5 + 1) (lv' := [(5, .int (v5 + 1)), (3, .int 0), (0, .ref v0), (1, .int v1), (2, .int v2), (4, .int v4)]) h 5 dX1_poles_101 rfl rfl (by decide) rfl ?_
            refine r_goto (tgt := 56) h dX1_poles_104 (by decide) ?_
            exact V.sub [2, 3, 4, 1, 5, 0] rfl hf
          · have hf := ite_f c39 hf
            refine r_iconst (v := 1) h dX1_poles_95 (by decide) ?_
            refine r_goto (tgt := 100) h dX1_poles_96 (by decide) ?_
            refine r_istore_n (lv' := [(3, .int 1), (0, .ref v0), (1, .int v1), (2, .int v2), (4, .int v4), (5, .int v5)]) h dX1_poles_100 rfl (by decide) rfl ?_
            refine r_iinc (v := v5 + 1) (lv' := [(5, .int (v5 + 1)), (3, .int 1), (0, .ref v0), (1, .int v1), (2, .int v2), (4, .int v4)]) h 5 dX1_poles_101 rfl rfl (by decide) rfl ?_
            refine r_goto (tgt := 56) h dX1_poles_104 (by decide) ?_
            exact V.sub [2, 3, 4, 1, 5, 0] rfl hf)
  refine r_iconst (v := (-1)) h dX1_poles_0 (by decide) ?_
  refine r_istore_n (lv' := [(1, .int (-1)), (0, .ref a0)]) h dX1_poles_1 rfl (by decide) rfl ?_
  refine r_iconst (v := 0) h dX1_poles_2 (by decide) ?_
  refine r_istore_n (lv' := [(2, .int 0), (1, .int (-1)), (0, .ref a0)]) h dX1_poles_3 rfl (by decide) rfl ?_
  exact V.sub [2, 1, 0] rfl hf
theorem c749 {l : Launch} {G : gG} {X : gX} {cc : ByteArray} {nL F L bc bs pc : Nat} {M : gM} {lv : List (Nat × Value)} {rest : List Value} {a0 : Nat} {K : Int32 → gM → Prop} (hl : l.stackTraces = false) (h : hX l G X cc nL "GlacierMailLaw" F L) (d : decode cc pc = .ok (.invokevirtual 241, 3)) (hk : kd M a0 = some (.inl 1)) (hf : f_X1_poles a0 M K) (hst : (rest.map fun v => v.category).sum ≤ 8) (hF : 2 ≤ F) (hL : 49 ≤ L) (kk : ∀ x M1, K x M1 → V l G X bc bs M1 (pc + 3) lv (.int x :: rest)) : V l G X bc bs M pc lv (.ref a0 :: rest) := r_callV (n := 0) (As := []) h (m_X1_poles hl hf) 1 rfl hk rfl ⟨by decide, by decide, by decide +kernel⟩ d q749 q750 q751 q135 q752 rfl rfl hst hF hL (Nat.zero_le _) (Nat.zero_le _) (kI_go kk) kN_go
def f_X1_order (a0 : Nat) (a1 : Int32) (M : gM) (K : Int32 → gM → Prop) : Prop :=
  ∀ P2 : Nat → Int32 → Int32 → gM → Prop,
  ∀ P34 : Nat → Int32 → Int32 → gM → Prop,
  ∀ P48 : Nat → Int32 → Int32 → Int32 → gM → Prop,
  (∀ (v0 : Nat) (v1 : Int32) (v2 : Int32) (M : gM), (kd M v0 = some (.inl 1) ∧ ∃ b2, rv M v0 1 = some b2 ∧ kd M b2 = some (.inl 3) ∧ if (iv M b2 14) ≤ v2 then P34 v0 v1 1 M else ∃ b6, rv M v0 7 = some b6 ∧ f_X1_outOf v0 v2 M (fun x9 M8 => inA M8 b6 0 v2 ∧ ∀ M11, M11 = sI M8 b6 (ix v2) x9 → P2 v0 v1 (v2 + 1) M11)) → P2 v0 v1 v2 M) →
  (∀ (v0 : Nat) (v2 : Int32) (v3 : Int32) (M : gM), (if 300 ≤ v3 then K (-1) M else if v2 < 0 then K (-1) M else P48 v0 v2 v3 0 M) → P34 v0 v2 v3 M) →
  (∀ (v0 : Nat) (v2 : Int32) (v3 : Int32) (v4 : Int32) (M : gM), (kd M v0 = some (.inl 1) ∧ ∃ b15, rv M v0 1 = some b15 ∧ kd M b15 = some (.inl 3) ∧ if (iv M b15 14) ≤ v4 then P34 v0 v2 (v3 + 1) M else ∃ b19, rv M v0 7 = some b19 ∧ inA M b19 0 v4 ∧ if (iv M b19 (ix v4)) = v3 then if v2 = 0 then K v4 M else P48 v0 (v2 + (-1)) v3 (v4 + 1) M else P48 v0 v2 v3 (v4 + 1) M) → P48 v0 v2 v3 v4 M) →
  P2 a0 a1 0 M
set_option maxHeartbeats 4000000 in
theorem m_X1_order {l : Launch} (hl : l.stackTraces = false) {G : gG} {a0 : Nat} {a1 : Int32} {M : gM} {K : Int32 → gM → Prop} (hf : f_X1_order a0 a1 M K) : gMet l G yX1_order (ws_ yX1_order cX1_order 5 (some Jvm.ClassFile.FieldType.int)) ({ frames := 30, cells := 0, slots := 0, locals := 668 }) M [.ref a0, .int a1] (kI K) kN := by
  refine gm_of hl (ret := (some Jvm.ClassFile.FieldType.int)) rfl (Nat.le_of_ble_eq_true rfl) (fun X h hq => ?_)
  have h : hX l G X cX1_order 5 "GlacierMail" 30 668 := h
  have hf := hf
  show V l G X 0 0 M 0 [(0, .ref a0), (1, .int a1)] []
  have hf := hf
    (fun v0 v1 v2 M => V l G X 0 0 M 2 [(0, .ref v0), (1, .int v1), (2, .int v2)] [])
    (fun v0 v2 v3 M => V l G X 0 0 M 34 [(0, .ref v0), (2, .int v2), (3, .int v3)] [])
    (fun v0 v2 v3 v4 M => V l G X 0 0 M 48 [(0, .ref v0), (2, .int v2), (3, .int v3), (4, .int v4)] [])
    (by
      intro v0 v1 v2 M hf
      show V l G X 0 0 M 2 [(0, .ref v0), (1, .int v1), (2, .int v2)] []
      refine r_iload_n h 2 dX1_order_2 rfl rfl ?_
      refine r_aload_n h 0 dX1_order_3 rfl rfl ?_
      obtain ⟨k1, hf⟩ := hf
      obtain ⟨b2, e3, hf⟩ := hf
      refine g573 h dX1_order_4 k1 e3 ?_
      obtain ⟨k4, hf⟩ := hf
      refine g358 h dX1_order_7 k4 ?_
      refine r_icmp_ge (tgt := 30) h dX1_order_10 (by decide) (fun c5 => ?_) (fun c5 => ?_)
      · have hf := ite_t c5 hf
        refine r_iload_n h 1 dX1_order_30 rfl rfl ?_
        refine r_istore_n (lv' := [(2, .int v1), (0, .ref v0), (1, .int v1)]) h dX1_order_31 rfl (by decide) rfl ?_
        refine r_iconst (v := 1) h dX1_order_32 (by decide) ?_
        refine r_istore_n (lv' := [(3, .int 1), (2, .int v1), (0, .ref v0), (1, .int v1)]) h dX1_order_33 rfl (by decide) rfl ?_
        exact V.sub [2, 1, 0] rfl hf
      · have hf := ite_f c5 hf
        refine r_aload_n h 0 dX1_order_13 rfl rfl ?_
        obtain ⟨b6, e7, hf⟩ := hf
        refine g580 h dX1_order_14 k1 e7 ?_
        refine r_iload_n h 2 dX1_order_17 rfl rfl ?_
        refine r_aload_n h 0 dX1_order_18 rfl rfl ?_
        refine r_iload_n h 2 dX1_order_19 rfl rfl ?_
        refine c645 hl h dX1_order_20 k1 hf (Nat.le_of_ble_eq_true rfl) (by decide) (by decide) (fun x9 M8 hf => ?_)
        obtain ⟨j10, hf⟩ := hf
        refine r_iastore h dX1_order_23 j10 ?_
        refine r_goW (fun M11 eM11 => ?_)
        have hf := hf M11 eM11
        refine r_iinc (v := v2 + 1) (lv' := [(2, .int (v2 + 1)), (0, .ref v0), (1, .int v1)]) h 2 dX1_order_24 rfl rfl (by decide) rfl ?_
        refine r_goto (tgt := 2) h dX1_order_27 (by decide) ?_
        exact V.sub [1, 2, 0] rfl hf)
    (by
      intro v0 v2 v3 M hf
      show V l G X 0 0 M 34 [(0, .ref v0), (2, .int v2), (3, .int v3)] []
      refine r_iload_n h 2 dX1_order_34 rfl rfl ?_
      refine r_sipush (v := 300) h dX1_order_35 (by decide) ?_
      refine r_icmp_ge (tgt := 96) h dX1_order_38 (by decide) (fun c12 => ?_) (fun c12 => ?_)
      · have hf := ite_t c12 hf
        refine r_iconst (v := (-1)) h dX1_order_96 (by decide) ?_
        exact r_ireturn h hq dX1_order_97 ⟨_, rfl, hf⟩
      · have hf := ite_f c12 hf
        refine r_iload_n h 1 dX1_order_41 rfl rfl ?_
        refine r_if_lt (tgt := 96) h dX1_order_42 (by decide) (fun c13 => ?_) (fun c13 => ?_)
        · have hf := ite_t c13 hf
          refine r_iconst (v := (-1)) h dX1_order_96 (by decide) ?_
          exact r_ireturn h hq dX1_order_97 ⟨_, rfl, hf⟩
        · have hf := ite_f c13 hf
          refine r_iconst (v := 0) h dX1_order_45 (by decide) ?_
          refine r_istore (lv' := [(4, .int 0), (0, .ref v0), (2, .int v2), (3, .int v3)]) h dX1_order_46 (by decide) rfl ?_
          exact V.sub [1, 2, 3, 0] rfl hf)
    (by
      intro v0 v2 v3 v4 M hf
      show V l G X 0 0 M 48 [(0, .ref v0), (2, .int v2), (3, .int v3), (4, .int v4)] []
      refine r_iload h 3 dX1_order_48 rfl ?_
      refine r_aload_n h 0 dX1_order_50 rfl rfl ?_
      obtain ⟨k14, hf⟩ := hf
      obtain ⟨b15, e16, hf⟩ := hf
      refine g573 h dX1_order_51 k14 e16 ?_
      obtain ⟨k17, hf⟩ := hf
      refine g358 h dX1_order_54 k17 ?_
      refine r_icmp_ge (tgt := 90) h dX1_order_57 (by decide) (fun c18 => ?_) (fun c18 => ?_)
      · have hf := ite_t c18 hf
        refine r_iinc (v := v3 + 1) (lv' := [(3, .int (v3 + 1)), (0, .ref v0), (2, .int v2), (4, .int v4)]) h 2 dX1_order_90 rfl rfl (by decide) rfl ?_
        refine r_goto (tgt := 34) h dX1_order_93 (by decide) ?_
        exact V.sub [1, 2, 0] rfl hf
      · have hf := ite_f c18 hf
        refine r_aload_n h 0 dX1_order_60 rfl rfl ?_
        obtain ⟨b19, e20, hf⟩ := hf
        refine g580 h dX1_order_61 k14 e20 ?_
        refine r_iload h 3 dX1_order_64 rfl ?_
        obtain ⟨j21, hf⟩ := hf
        refine r_iaload h dX1_order_66 j21 ?_
        refine r_iload_n h 2 dX1_order_67 rfl rfl ?_
        refine r_icmp_eq (tgt := 74) h dX1_order_68 (by decide) (fun c22 => ?_) (fun c22 => ?_)
        · have hf := ite_t c22 hf
          refine r_iload_n h 1 dX1_order_74 rfl rfl ?_
          refine r_if_ne (tgt := 81) h dX1_order_75 (by decide) (fun c23 => ?_) (fun c23 => ?_)
          · have hf := ite_f c23 hf
            refine r_iinc (v := v2 + (-1)) (lv' := [(2, .int (v2 + (-1))), (0, .ref v0), (3, .int v3), (4, .int v4)]) h 1 dX1_order_81 rfl rfl (by decide) rfl ?_
            refine r_iinc (v := v4 + 1) (lv' := [(4, .int (v4 + 1)), (2, .int (v2 + (-1))), (0, .ref v0), (3, .int v3)]) h 3 dX1_order_84 rfl rfl (by decide) rfl ?_
            refine r_goto (tgt := 48) h dX1_order_87 (by decide) ?_
            exact V.sub [2, 1, 3, 0] rfl hf
          · have hf := ite_t c23 hf
            refine r_iload h 3 dX1_order_78 rfl ?_
            exact r_ireturn h hq dX1_order_80 ⟨_, rfl, hf⟩
        · have hf := ite_f c22 hf
          refine r_goto (tgt := 84) h dX1_order_71 (by decide) ?_
          refine r_iinc (v := v4 + 1) (lv' := [(4, .int (v4 + 1)), (0, .ref v0), (2, .int v2), (3, .int v3)]) h 3 dX1_order_84 rfl rfl (by decide) rfl ?_
          refine r_goto (tgt := 48) h dX1_order_87 (by decide) ?_
          exact V.sub [1, 2, 3, 0] rfl hf)
  refine r_iconst (v := 0) h dX1_order_0 (by decide) ?_
  refine r_istore_n (lv' := [(2, .int 0), (0, .ref a0), (1, .int a1)]) h dX1_order_1 rfl (by decide) rfl ?_
  exact V.sub [1, 2, 0] rfl hf
theorem c763 {l : Launch} {G : gG} {X : gX} {cc : ByteArray} {nL F L bc bs pc : Nat} {M : gM} {lv : List (Nat × Value)} {rest : List Value} {a0 : Nat} {a1 : Int32} {K : Int32 → gM → Prop} (hl : l.stackTraces = false) (h : hX l G X cc nL "GlacierMailLaw" F L) (d : decode cc pc = .ok (.invokevirtual 271, 3)) (hk : kd M a0 = some (.inl 1)) (hf : f_X1_order a0 a1 M K) (hst : (rest.map fun v => v.category).sum ≤ 8) (hF : 31 ≤ F) (hL : 692 ≤ L) (kk : ∀ x M1, K x M1 → V l G X bc bs M1 (pc + 3) lv (.int x :: rest)) : V l G X bc bs M pc lv (.int a1 :: .ref a0 :: rest) := r_callV (n := 1) (As := [.int a1]) h (m_X1_order hl hf) 1 rfl hk rfl ⟨by decide, by decide, by decide +kernel⟩ d q763 q764 q765 q135 q766 rfl rfl hst hF hL (Nat.zero_le _) (Nat.zero_le _) (kI_go kk) kN_go
def f_X1_undo (a0 : Nat) (M : gM) (K : Int32 → gM → Prop) : Prop :=
  kd M a0 = some (.inl 1) ∧ if (iv M a0 12) = 0 then K 0 M else ∀ M3, M3 = sI M a0 12 ((iv M a0 12) - 1) → kd M3 a0 = some (.inl 1) ∧ ∀ M5, M5 = sI M3 a0 13 ((((iv M3 a0 13) + 12) - 1) - (((iv M3 a0 13) + 12) - 1) / 12 * 12) → kd M5 a0 = some (.inl 1) ∧ ∃ b7, rv M5 a0 1 = some b7 ∧ ∃ b9, rv M5 a0 3 = some b9 ∧ inA M5 b9 9 (iv M5 a0 13) ∧ ∃ b12, rv M5 b9 (ix (iv M5 a0 13)) = some b12 ∧ kd M5 b7 = some (.inl 3) ∧ f_X3_be b7 b12 M5 (fun M15 => K 1 M15)
set_option maxHeartbeats 4000000 in
theorem m_X1_undo {l : Launch} (hl : l.stackTraces = false) {G : gG} {a0 : Nat} {M : gM} {K : Int32 → gM → Prop} (hf : f_X1_undo a0 M K) : gMet l G yX1_undo (ws_ yX1_undo cX1_undo 1 (some Jvm.ClassFile.FieldType.boolean)) ({ frames := 3, cells := 0, slots := 0, locals := 143 }) M [.ref a0] (kI K) kN := by
  refine gm_of hl (ret := (some Jvm.ClassFile.FieldType.boolean)) rfl (Nat.le_of_ble_eq_true rfl) (fun X h hq => ?_)
  have h : hX l G X cX1_undo 1 "GlacierMail" 3 143 := h
  have hf := hf
  show V l G X 0 0 M 0 [(0, .ref a0)] []
  unfold f_X1_undo at hf
  refine r_aload_n h 0 dX1_undo_0 rfl rfl ?_
  obtain ⟨k1, hf⟩ := hf
  refine g585 h dX1_undo_1 k1 ?_
  refine r_if_ne (tgt := 9) h dX1_undo_4 (by decide) (fun c2 => ?_) (fun c2 => ?_)
  · have hf := ite_f c2 hf
    refine r_aload_n h 0 dX1_undo_9 rfl rfl ?_
    refine r_dup h dX1_undo_10 rfl ?_
    refine g585 h dX1_undo_11 k1 ?_
    refine r_iconst (v := 1) h dX1_undo_14 (by decide) ?_
    refine r_isub h dX1_undo_15 ?_
    refine p585 h dX1_undo_16 k1 ?_
    refine r_goW (fun M3 eM3 => ?_)
    have hf := hf M3 eM3
    refine r_aload_n h 0 dX1_undo_19 rfl rfl ?_
    refine r_aload_n h 0 dX1_undo_20 rfl rfl ?_
    obtain ⟨k4, hf⟩ := hf
    refine g586 h dX1_undo_21 k4 ?_
    refine r_bipush (v := 12) h dX1_undo_24 (by decide) ?_
    refine r_iadd h dX1_undo_26 ?_
    refine r_iconst (v := 1) h dX1_undo_27 (by decide) ?_
    refine r_isub h dX1_undo_28 ?_
    refine r_bipush (v := 12) h dX1_undo_29 (by decide) ?_
    refine r_irem h dX1_undo_31 (by decide) ?_
    refine p586 h dX1_undo_32 k4 ?_
    refine r_goW (fun M5 eM5 => ?_)
    have hf := hf M5 eM5
    refine r_aload_n h 0 dX1_undo_35 rfl rfl ?_
    obtain ⟨k6, hf⟩ := hf
    obtain ⟨b7, e8, hf⟩ := hf
    refine g573 h dX1_undo_36 k6 e8 ?_
    refine r_aload_n h 0 dX1_undo_39 rfl rfl ?_
    obtain ⟨b9, e10, hf⟩ := hf
    refine g576 h dX1_undo_40 k6 e10 ?_
    refine r_aload_n h 0 dX1_undo_43 rfl rfl ?_
    refine g586 h dX1_undo_44 k6 ?_
    obtain ⟨j11, b12, e13, hf⟩ := hf
    refine r_aaload h 9 (by decide) (by decide) dX1_undo_47 j11 (v := .ref b12) (by rw [e13]; rfl) ?_
    obtain ⟨k14, hf⟩ := hf
    refine c771 hl h dX1_undo_48 k14 hf (Nat.le_of_ble_eq_true rfl) (by decide) (by decide) (fun M15 hf => ?_)
    refine r_iconst (v := 1) h dX1_undo_51 (by decide) ?_
    exact r_zreturn h hq dX1_undo_52 (by decide) ⟨_, rfl, hf⟩
  · have hf := ite_t c2 hf
    refine r_iconst (v := 0) h dX1_undo_7 (by decide) ?_
    exact r_zreturn h hq dX1_undo_8 (by decide) ⟨_, rfl, hf⟩
theorem c767 {l : Launch} {G : gG} {X : gX} {cc : ByteArray} {nL F L bc bs pc : Nat} {M : gM} {lv : List (Nat × Value)} {rest : List Value} {a0 : Nat} {K : Int32 → gM → Prop} (hl : l.stackTraces = false) (h : hX l G X cc nL "GlacierMailLaw" F L) (d : decode cc pc = .ok (.invokevirtual 290, 3)) (hk : kd M a0 = some (.inl 1)) (hf : f_X1_undo a0 M K) (hst : (rest.map fun v => v.category).sum ≤ 8) (hF : 4 ≤ F) (hL : 163 ≤ L) (kk : ∀ x M1, K x M1 → V l G X bc bs M1 (pc + 3) lv (.int x :: rest)) : V l G X bc bs M pc lv (.ref a0 :: rest) := r_callV (n := 0) (As := []) h (m_X1_undo hl hf) 1 rfl hk rfl ⟨by decide, by decide, by decide +kernel⟩ d q767 q768 q769 q135 q770 rfl rfl hst hF hL (Nat.zero_le _) (Nat.zero_le _) (kI_go kk) kN_go
def f_X1_image (a0 : Nat) (M : gM) (K : gM → Prop) : Prop :=
  kd M a0 = some (.inl 1) ∧ ∃ b2, rv M a0 2 = some b2 ∧ ∃ b4, rv M a0 1 = some b4 ∧ kd M b2 = some (.inl 3) ∧ f_X3_be b2 b4 M (fun M7 => kd M7 a0 = some (.inl 1) ∧ ∀ M9, M9 = sI M7 a0 15 1 → K M9)
set_option maxHeartbeats 4000000 in
theorem m_X1_image {l : Launch} (hl : l.stackTraces = false) {G : gG} {a0 : Nat} {M : gM} {K : gM → Prop} (hf : f_X1_image a0 M K) : gMet l G yX1_image (ws_ yX1_image cX1_image 1 none) ({ frames := 3, cells := 0, slots := 0, locals := 143 }) M [.ref a0] (kV K) kN := by
  refine gm_of hl (ret := none) rfl (Nat.le_of_ble_eq_true rfl) (fun X h hq => ?_)
  have h : hX l G X cX1_image 1 "GlacierMail" 3 143 := h
  have hf := hf
  show V l G X 0 0 M 0 [(0, .ref a0)] []
  unfold f_X1_image at hf
  refine r_aload_n h 0 dX1_image_0 rfl rfl ?_
  obtain ⟨k1, hf⟩ := hf
  obtain ⟨b2, e3, hf⟩ := hf
  refine g575 h dX1_image_1 k1 e3 ?_
  refine r_aload_n h 0 dX1_image_4 rfl rfl ?_
  obtain ⟨b4, e5, hf⟩ := hf
  refine g573 h dX1_image_5 k1 e5 ?_
  obtain ⟨k6, hf⟩ := hf
  refine c771 hl h dX1_image_8 k6 hf (Nat.le_of_ble_eq_true rfl) (by decide) (by decide) (fun M7 hf => ?_)
  refine r_aload_n h 0 dX1_image_11 rfl rfl ?_
  refine r_iconst (v := 1) h dX1_image_12 (by decide) ?_
  obtain ⟨k8, hf⟩ := hf
  refine p588 h dX1_image_13 k8 (by decide) ?_
  refine r_goW (fun M9 eM9 => ?_)
  have hf := hf M9 eM9
  exact r_return h hq dX1_image_16 ⟨rfl, hf⟩
theorem c795 {l : Launch} {G : gG} {X : gX} {cc : ByteArray} {nL F L bc bs pc : Nat} {M : gM} {lv : List (Nat × Value)} {rest : List Value} {a0 : Nat} {K : gM → Prop} (hl : l.stackTraces = false) (h : hX l G X cc nL "GlacierMailLaw" F L) (d : decode cc pc = .ok (.invokevirtual 295, 3)) (hk : kd M a0 = some (.inl 1)) (hf : f_X1_image a0 M K) (hst : (rest.map fun v => v.category).sum ≤ 8) (hF : 4 ≤ F) (hL : 163 ≤ L) (kk : ∀ M1, K M1 → V l G X bc bs M1 (pc + 3) lv rest) : V l G X bc bs M pc lv (.ref a0 :: rest) := r_callV (n := 0) (As := []) h (m_X1_image hl hf) 1 rfl hk rfl ⟨by decide, by decide, by decide +kernel⟩ d q795 q796 q797 q135 q798 rfl rfl hst hF hL (Nat.zero_le _) (Nat.zero_le _) (kV_go kk) kN_go
def f_X1_back (a0 : Nat) (M : gM) (K : Int32 → gM → Prop) : Prop :=
  kd M a0 = some (.inl 1) ∧ if (iv M a0 15) = 0 then K 0 M else ∃ b3, rv M a0 1 = some b3 ∧ ∃ b5, rv M a0 2 = some b5 ∧ kd M b3 = some (.inl 3) ∧ f_X3_be b3 b5 M (fun M8 => kd M8 a0 = some (.inl 1) ∧ ∀ M10, M10 = sI M8 a0 12 0 → kd M10 a0 = some (.inl 1) ∧ ∀ M12, M12 = sI M10 a0 14 (-1) → K 1 M12)
set_option maxHeartbeats 4000000 in
theorem m_X1_back {l : Launch} (hl : l.stackTraces = false) {G : gG} {a0 : Nat} {M : gM} {K : Int32 → gM → Prop} (hf : f_X1_back a0 M K) : gMet l G yX1_back (ws_ yX1_back cX1_back 1 (some Jvm.ClassFile.FieldType.boolean)) ({ frames := 3, cells := 0, slots := 0, locals := 143 }) M [.ref a0] (kI K) kN := by
  refine gm_of hl (ret := (some Jvm.ClassFile.FieldType.boolean)) rfl (Nat.le_of_ble_eq_true rfl) (fun X h hq => ?_)
  have h : hX l G X cX1_back 1 "GlacierMail" 3 143 := h
  have hf := hf
  show V l G X 0 0 M 0 [(0, .ref a0)] []
  unfold f_X1_back at hf
  refine r_aload_n h 0 dX1_back_0 rfl rfl ?_
  obtain ⟨k1, hf⟩ := hf
  refine g588 h dX1_back_1 k1 ?_
  refine r_if_ne (tgt := 9) h dX1_back_4 (by decide) (fun c2 => ?_) (fun c2 => ?_)
  · have hf := ite_f c2 hf
    refine r_aload_n h 0 dX1_back_9 rfl rfl ?_
    obtain ⟨b3, e4, hf⟩ := hf
    refine g573 h dX1_back_10 k1 e4 ?_
    refine r_aload_n h 0 dX1_back_13 rfl rfl ?_
    obtain ⟨b5, e6, hf⟩ := hf
    refine g575 h dX1_back_14 k1 e6 ?_
    obtain ⟨k7, hf⟩ := hf
    refine c771 hl h dX1_back_17 k7 hf (Nat.le_of_ble_eq_true rfl) (by decide) (by decide) (fun M8 hf => ?_)
    refine r_aload_n h 0 dX1_back_20 rfl rfl ?_
    refine r_iconst (v := 0) h dX1_back_21 (by decide) ?_
    obtain ⟨k9, hf⟩ := hf
    refine p585 h dX1_back_22 k9 ?_
    refine r_goW (fun M10 eM10 => ?_)
    have hf := hf M10 eM10
    refine r_aload_n h 0 dX1_back_25 rfl rfl ?_
    refine r_iconst (v := (-1)) h dX1_back_26 (by decide) ?_
    obtain ⟨k11, hf⟩ := hf
    refine p587 h dX1_back_27 k11 ?_
    refine r_goW (fun M12 eM12 => ?_)
    have hf := hf M12 eM12
    refine r_iconst (v := 1) h dX1_back_30 (by decide) ?_
    exact r_zreturn h hq dX1_back_31 (by decide) ⟨_, rfl, hf⟩
  · have hf := ite_t c2 hf
    refine r_iconst (v := 0) h dX1_back_7 (by decide) ?_
    exact r_zreturn h hq dX1_back_8 (by decide) ⟨_, rfl, hf⟩
theorem c799 {l : Launch} {G : gG} {X : gX} {cc : ByteArray} {nL F L bc bs pc : Nat} {M : gM} {lv : List (Nat × Value)} {rest : List Value} {a0 : Nat} {K : Int32 → gM → Prop} (hl : l.stackTraces = false) (h : hX l G X cc nL "GlacierMailLaw" F L) (d : decode cc pc = .ok (.invokevirtual 299, 3)) (hk : kd M a0 = some (.inl 1)) (hf : f_X1_back a0 M K) (hst : (rest.map fun v => v.category).sum ≤ 8) (hF : 4 ≤ F) (hL : 163 ≤ L) (kk : ∀ x M1, K x M1 → V l G X bc bs M1 (pc + 3) lv (.int x :: rest)) : V l G X bc bs M pc lv (.ref a0 :: rest) := r_callV (n := 0) (As := []) h (m_X1_back hl hf) 1 rfl hk rfl ⟨by decide, by decide, by decide +kernel⟩ d q799 q800 q801 q135 q802 rfl rfl hst hF hL (Nat.zero_le _) (Nat.zero_le _) (kI_go kk) kN_go
def f_X1_count (a0 : Nat) (a1 : Int32) (M : gM) (K : Int32 → gM → Prop) : Prop :=
  ∀ P210 : Nat → Int32 → Int32 → gM → Prop,
  ∀ P255 : Nat → Int32 → Int32 → gM → Prop,
  (∀ (v0 : Nat) (v2 : Int32) (v3 : Int32) (M : gM), (kd M v0 = some (.inl 1) ∧ ∃ b81, rv M v0 1 = some b81 ∧ kd M b81 = some (.inl 3) ∧ if (iv M b81 14) ≤ v3 then K v2 M else ∃ b85, rv M v0 1 = some b85 ∧ kd M b85 = some (.inl 3) ∧ ∃ b88, rv M b85 3 = some b88 ∧ inA M b88 8 v3 ∧ ∃ b91, rv M b88 (ix v3) = some b91 ∧ f_X1_waits v0 b91 M (fun x94 M93 => if x94 = 0 then P210 v0 (v2 + 0) (v3 + 1) M93 else P210 v0 (v2 + 1) (v3 + 1) M93)) → P210 v0 v2 v3 M) →
  (∀ (v0 : Nat) (v2 : Int32) (v3 : Int32) (M : gM), (kd M v0 = some (.inl 1) ∧ ∃ b97, rv M v0 1 = some b97 ∧ kd M b97 = some (.inl 3) ∧ if (iv M b97 14) ≤ v3 then K v2 M else ∃ b101, rv M v0 4 = some b101 ∧ ∃ b103, rv M v0 1 = some b103 ∧ kd M b103 = some (.inl 3) ∧ ∃ b106, rv M b103 3 = some b106 ∧ inA M b106 8 v3 ∧ ∃ b109, rv M b106 (ix v3) = some b109 ∧ kd M b101 = some (.inl 9) ∧ f_X9_of b101 b109 M (fun b113 M112 => kd M112 v0 = some (.inl 1) ∧ ∃ b115, rv M112 v0 1 = some b115 ∧ kd M112 b115 = some (.inl 3) ∧ kd M112 b113 = some (.inl 9) ∧ f_X9_isIn b113 (iv M112 b115 22) M112 (fun x120 M119 => if x120 = 0 then P255 v0 (v2 + 0) (v3 + 1) M119 else P255 v0 (v2 + 1) (v3 + 1) M119))) → P255 v0 v2 v3 M) →
  if a1 = 0 then kd M a0 = some (.inl 1) ∧ ∃ b3, rv M a0 1 = some b3 ∧ kd M b3 = some (.inl 3) ∧ K (iv M b3 9) M else if a1 = 1 then kd M a0 = some (.inl 1) ∧ ∃ b8, rv M a0 1 = some b8 ∧ kd M b8 = some (.inl 3) ∧ K (iv M b8 10) M else if a1 = 2 then kd M a0 = some (.inl 1) ∧ ∃ b13, rv M a0 1 = some b13 ∧ kd M b13 = some (.inl 3) ∧ K (iv M b13 11) M else if a1 = 3 then kd M a0 = some (.inl 1) ∧ ∃ b18, rv M a0 1 = some b18 ∧ kd M b18 = some (.inl 3) ∧ K (iv M b18 13) M else if a1 = 4 then kd M a0 = some (.inl 1) ∧ ∃ b23, rv M a0 1 = some b23 ∧ kd M b23 = some (.inl 3) ∧ K (iv M b23 14) M else if a1 = 5 then kd M a0 = some (.inl 1) ∧ ∃ b28, rv M a0 1 = some b28 ∧ kd M b28 = some (.inl 3) ∧ K (iv M b28 12) M else if a1 = 6 then kd M a0 = some (.inl 1) ∧ ∃ b33, rv M a0 1 = some b33 ∧ kd M b33 = some (.inl 3) ∧ K (iv M b33 15) M else if a1 = 7 then kd M a0 = some (.inl 1) ∧ ∃ b38, rv M a0 1 = some b38 ∧ kd M b38 = some (.inl 3) ∧ K (iv M b38 17) M else if a1 = 8 then kd M a0 = some (.inl 1) ∧ ∃ b43, rv M a0 1 = some b43 ∧ kd M b43 = some (.inl 3) ∧ K (iv M b43 16) M else if a1 = 9 then kd M a0 = some (.inl 1) ∧ ∃ b48, rv M a0 1 = some b48 ∧ kd M b48 = some (.inl 3) ∧ K (iv M b48 22) M else if a1 = 10 then kd M a0 = some (.inl 1) ∧ ∃ b53, rv M a0 1 = some b53 ∧ kd M b53 = some (.inl 3) ∧ K (iv M b53 18) M else if a1 = 11 then kd M a0 = some (.inl 1) ∧ ∃ b58, rv M a0 1 = some b58 ∧ kd M b58 = some (.inl 3) ∧ K (iv M b58 19) M else if a1 = 12 then kd M a0 = some (.inl 1) ∧ ∃ b63, rv M a0 1 = some b63 ∧ kd M b63 = some (.inl 3) ∧ K (iv M b63 20) M else if a1 = 13 then kd M a0 = some (.inl 1) ∧ ∃ b68, rv M a0 1 = some b68 ∧ kd M b68 = some (.inl 3) ∧ K (iv M b68 21) M else if a1 = 14 then kd M a0 = some (.inl 1) ∧ ∃ b73, rv M a0 1 = some b73 ∧ kd M b73 = some (.inl 3) ∧ K (iv M b73 23) M else if a1 = 15 then P210 a0 0 0 M else if a1 = 16 then P255 a0 0 0 M else if a1 = 17 then kd M a0 = some (.inl 1) ∧ K (iv M a0 12) M else K (-1) M
set_option maxHeartbeats 4000000 in
theorem m_X1_count {l : Launch} (hl : l.stackTraces = false) {G : gG} {a0 : Nat} {a1 : Int32} {M : gM} {K : Int32 → gM → Prop} (hf : f_X1_count a0 a1 M K) : gMet l G yX1_count (ws_ yX1_count cX1_count 4 (some Jvm.ClassFile.FieldType.int)) ({ frames := 31, cells := 0, slots := 0, locals := 690 }) M [.ref a0, .int a1] (kI K) kN := by
  refine gm_of hl (ret := (some Jvm.ClassFile.FieldType.int)) rfl (Nat.le_of_ble_eq_true rfl) (fun X h hq => ?_)
  have h : hX l G X cX1_count 4 "GlacierMail" 31 690 := h
  have hf := hf
  show V l G X 0 0 M 0 [(0, .ref a0), (1, .int a1)] []
  have hf := hf
    (fun v0 v2 v3 M => V l G X 0 0 M 210 [(0, .ref v0), (2, .int v2), (3, .int v3)] [])
    (fun v0 v2 v3 M => V l G X 0 0 M 255 [(0, .ref v0), (2, .int v2), (3, .int v3)] [])
    (by
      intro v0 v2 v3 M hf
      show V l G X 0 0 M 210 [(0, .ref v0), (2, .int v2), (3, .int v3)] []
      refine r_iload_n h 2 dX1_count_210 rfl rfl ?_
      refine r_aload_n h 0 dX1_count_211 rfl rfl ?_
      obtain ⟨k80, hf⟩ := hf
      obtain ⟨b81, e82, hf⟩ := hf
      refine g573 h dX1_count_212 k80 e82 ?_
      obtain ⟨k83, hf⟩ := hf
      refine g358 h dX1_count_215 k83 ?_
      refine r_icmp_ge (tgt := 251) h dX1_count_218 (by decide) (fun c84 => ?_) (fun c84 => ?_)
      · have hf := ite_t c84 hf
        refine r_iload_n h 1 dX1_count_251 rfl rfl ?_
        exact r_ireturn h hq dX1_count_252 ⟨_, rfl, hf⟩
      · have hf := ite_f c84 hf
        refine r_iload_n h 1 dX1_count_221 rfl rfl ?_
        refine r_aload_n h 0 dX1_count_222 rfl rfl ?_
        refine r_aload_n h 0 dX1_count_223 rfl rfl ?_
        obtain ⟨b85, e86, hf⟩ := hf
        refine g573 h dX1_count_224 k80 e86 ?_
        obtain ⟨k87, hf⟩ := hf
        obtain ⟨b88, e89, hf⟩ := hf
        refine g329 h dX1_count_227 k87 e89 ?_
        refine r_iload_n h 2 dX1_count_230 rfl rfl ?_
        obtain ⟨j90, b91, e92, hf⟩ := hf
        refine r_aaload h 8 (by decide) (by decide) dX1_count_231 j90 (v := .ref b91) (by rw [e92]; rfl) ?_
        refine c807 hl h dX1_count_232 k80 hf (Nat.le_of_ble_eq_true rfl) (by decide) (by decide) (fun x94 M93 hf => ?_)
        refine r_if_eq (tgt := 242) h dX1_count_235 (by decide) (fun c95 => ?_) (fun c95 => ?_)
        · have hf := ite_t c95 hf
          refine r_iconst (v := 0) h dX1_count_242 (by decide) ?_
          refine r_iadd h dX1_count_243 ?_
          refine r_istore_n (lv' := [(2, .int (v2 + 0)), (0, .ref v0), (3, .int v3)]) h dX1_count_244 rfl (by decide) rfl ?_
          refine r_iinc (v := v3 + 1) (lv' := [(3, .int (v3 + 1)), (2, .int (v2 + 0)), (0, .ref v0)]) h 2 dX1_count_245 rfl rfl (by decide) rfl ?_
          refine r_goto (tgt := 210) h dX1_count_248 (by decide) ?_
          exact V.sub [2, 1, 0] rfl hf
        · have hf := ite_f c95 hf
          refine r_iconst (v := 1) h dX1_count_238 (by decide) ?_
          refine r_goto (tgt := 243) h dX1_count_239 (by decide) ?_
          refine r_iadd h dX1_count_243 ?_
          refine r_istore_n (lv' := [(2, .int (v2 + 1)), (0, .ref v0), (3, .int v3)]) h dX1_count_244 rfl (by decide) rfl ?_
          refine r_iinc (v := v3 + 1) (lv' := [(3, .int (v3 + 1)), (2, .int (v2 + 1)), (0, .ref v0)]) h 2 dX1_count_245 rfl rfl (by decide) rfl ?_
          refine r_goto (tgt := 210) h dX1_count_248 (by decide) ?_
          exact V.sub [2, 1, 0] rfl hf)
    (by
      intro v0 v2 v3 M hf
      show V l G X 0 0 M 255 [(0, .ref v0), (2, .int v2), (3, .int v3)] []
      refine r_iload_n h 2 dX1_count_255 rfl rfl ?_
      refine r_aload_n h 0 dX1_count_256 rfl rfl ?_
      obtain ⟨k96, hf⟩ := hf
      obtain ⟨b97, e98, hf⟩ := hf
      refine g573 h dX1_count_257 k96 e98 ?_
      obtain ⟨k99, hf⟩ := hf
      refine g358 h dX1_count_260 k99 ?_
      refine r_icmp_ge (tgt := 309) h dX1_count_263 (by decide) (fun c100 => ?_) (fun c100 => ?_)
      · have hf := ite_t c100 hf
        refine r_iload_n h 1 dX1_count_309 rfl rfl ?_
        exact r_ireturn h hq dX1_count_310 ⟨_, rfl, hf⟩
      · have hf := ite_f c100 hf
        refine r_iload_n h 1 dX1_count_266 rfl rfl ?_
        refine r_aload_n h 0 dX1_count_267 rfl rfl ?_
        obtain ⟨b101, e102, hf⟩ := hf
        refine g577 h dX1_count_268 k96 e102 ?_
        refine r_aload_n h 0 dX1_count_271 rfl rfl ?_
        obtain ⟨b103, e104, hf⟩ := hf
        refine g573 h dX1_count_272 k96 e104 ?_
        obtain ⟨k105, hf⟩ := hf
        obtain ⟨b106, e107, hf⟩ := hf
        refine g329 h dX1_count_275 k105 e107 ?_
        refine r_iload_n h 2 dX1_count_278 rfl rfl ?_
        obtain ⟨j108, b109, e110, hf⟩ := hf
        refine r_aaload h 8 (by decide) (by decide) dX1_count_279 j108 (v := .ref b109) (by rw [e110]; rfl) ?_
        obtain ⟨k111, hf⟩ := hf
        refine c649 hl h dX1_count_280 k111 hf (Nat.le_of_ble_eq_true rfl) (by decide) (by decide) (fun b113 M112 hf => ?_)
        refine r_aload_n h 0 dX1_count_283 rfl rfl ?_
        obtain ⟨k114, hf⟩ := hf
        obtain ⟨b115, e116, hf⟩ := hf
        refine g573 h dX1_count_284 k114 e116 ?_
        obtain ⟨k117, hf⟩ := hf
        refine g381 h dX1_count_287 k117 ?_
        obtain ⟨k118, hf⟩ := hf
        refine c815 hl h dX1_count_290 k118 hf (Nat.le_of_ble_eq_true rfl) (by decide) (by decide) (fun x120 M119 hf => ?_)
        refine r_if_eq (tgt := 300) h dX1_count_293 (by decide) (fun c121 => ?_) (fun c121 => ?_)
        · have hf := ite_t c121 hf
          refine r_iconst (v := 0) h dX1_count_300 (by decide) ?_
          refine r_iadd h dX1_count_301 ?_
          refine r_istore_n (lv' := [(2, .int (v2 + 0)), (0, .ref v0), (3, .int v3)]) h dX1_count_302 rfl (by decide) rfl ?_
          refine r_iinc (v := v3 + 1) (lv' := [(3, .int (v3 + 1)), (2, .int (v2 + 0)), (0, .ref v0)]) h 2 dX1_count_303 rfl rfl (by decide) rfl ?_
          refine r_goto (tgt := 255) h dX1_count_306 (by decide) ?_
          exact V.sub [2, 1, 0] rfl hf
        · have hf := ite_f c121 hf
          refine r_iconst (v := 1) h dX1_count_296 (by decide) ?_
          refine r_goto (tgt := 301) h dX1_count_297 (by decide) ?_
          refine r_iadd h dX1_count_301 ?_
          refine r_istore_n (lv' := [(2, .int (v2 + 1)), (0, .ref v0), (3, .int v3)]) h dX1_count_302 rfl (by decide) rfl ?_
          refine r_iinc (v := v3 + 1) (lv' := [(3, .int (v3 + 1)), (2, .int (v2 + 1)), (0, .ref v0)]) h 2 dX1_count_303 rfl rfl (by decide) rfl ?_
          refine r_goto (tgt := 255) h dX1_count_306 (by decide) ?_
          exact V.sub [2, 1, 0] rfl hf)
  refine r_iconst (v := 0) h dX1_count_0 (by decide) ?_
  refine r_istore_n (lv' := [(2, .int 0), (0, .ref a0), (1, .int a1)]) h dX1_count_1 rfl (by decide) rfl ?_
  refine r_iload_n h 2 dX1_count_2 rfl rfl ?_
  by_cases c1 : a1 = 0
  · have hf := ite_t c1 hf
    refine r_tableIn (off := 85) (tgt := 88) h dX1_count_3 (by rw [c1]; decide) (by rw [c1]; decide) (by rw [c1]; rfl) (by decide) ?_
    refine r_aload_n h 1 dX1_count_88 rfl rfl ?_
    obtain ⟨k2, hf⟩ := hf
    obtain ⟨b3, e4, hf⟩ := hf
    refine g573 h dX1_count_89 k2 e4 ?_
    obtain ⟨k5, hf⟩ := hf
    refine g342 h dX1_count_92 k5 ?_
    exact r_ireturn h hq dX1_count_95 ⟨_, rfl, hf⟩
  have hf := ite_f c1 hf
  by_cases c6 : a1 = 1
  · have hf := ite_t c6 hf
    refine r_tableIn (off := 93) (tgt := 96) h dX1_count_3 (by rw [c6]; decide) (by rw [c6]; decide) (by rw [c6]; rfl) (by decide) ?_
    refine r_aload_n h 1 dX1_count_96 rfl rfl ?_
    obtain ⟨k7, hf⟩ := hf
    obtain ⟨b8, e9, hf⟩ := hf
    refine g573 h dX1_count_97 k7 e9 ?_
    obtain ⟨k10, hf⟩ := hf
    refine g346 h dX1_count_100 k10 ?_
    exact r_ireturn h hq dX1_count_103 ⟨_, rfl, hf⟩
  have hf := ite_f c6 hf
  by_cases c11 : a1 = 2
  · have hf := ite_t c11 hf
    refine r_tableIn (off := 101) (tgt := 104) h dX1_count_3 (by rw [c11]; decide) (by rw [c11]; decide) (by rw [c11]; rfl) (by decide) ?_
    refine r_aload_n h 1 dX1_count_104 rfl rfl ?_
    obtain ⟨k12, hf⟩ := hf
    obtain ⟨b13, e14, hf⟩ := hf
    refine g573 h dX1_count_105 k12 e14 ?_
    obtain ⟨k15, hf⟩ := hf
    refine g350 h dX1_count_108 k15 ?_
    exact r_ireturn h hq dX1_count_111 ⟨_, rfl, hf⟩
  have hf := ite_f c11 hf
  by_cases c16 : a1 = 3
  · have hf := ite_t c16 hf
    refine r_tableIn (off := 109) (tgt := 112) h dX1_count_3 (by rw [c16]; decide) (by rw [c16]; decide) (by rw [c16]; rfl) (by decide) ?_
    refine r_aload_n h 1 dX1_count_112 rfl rfl ?_
    obtain ⟨k17, hf⟩ := hf
    obtain ⟨b18, e19, hf⟩ := hf
    refine g573 h dX1_count_113 k17 e19 ?_
    obtain ⟨k20, hf⟩ := hf
    refine g355 h dX1_count_116 k20 ?_
    exact r_ireturn h hq dX1_count_119 ⟨_, rfl, hf⟩
  have hf := ite_f c16 hf
  by_cases c21 : a1 = 4
  · have hf := ite_t c21 hf
    refine r_tableIn (off := 117) (tgt := 120) h dX1_count_3 (by rw [c21]; decide) (by rw [c21]; decide) (by rw [c21]; rfl) (by decide) ?_
    refine r_aload_n h 1 dX1_count_120 rfl rfl ?_
    obtain ⟨k22, hf⟩ := hf
    obtain ⟨b23, e24, hf⟩ := hf
    refine g573 h dX1_count_121 k22 e24 ?_
    obtain ⟨k25, hf⟩ := hf
    refine g358 h dX1_count_124 k25 ?_
    exact r_ireturn h hq dX1_count_127 ⟨_, rfl, hf⟩
  have hf := ite_f c21 hf
  by_cases c26 : a1 = 5
  · have hf := ite_t c26 hf
    refine r_tableIn (off := 125) (tgt := 128) h dX1_count_3 (by rw [c26]; decide) (by rw [c26]; decide) (by rw [c26]; rfl) (by decide) ?_
    refine r_aload_n h 1 dX1_count_128 rfl rfl ?_
    obtain ⟨k27, hf⟩ := hf
    obtain ⟨b28, e29, hf⟩ := hf
    refine g573 h dX1_count_129 k27 e29 ?_
    obtain ⟨k30, hf⟩ := hf
    refine g353 h dX1_count_132 k30 ?_
    exact r_ireturn h hq dX1_count_135 ⟨_, rfl, hf⟩
  have hf := ite_f c26 hf
  by_cases c31 : a1 = 6
  · have hf := ite_t c31 hf
    refine r_tableIn (off := 133) (tgt := 136) h dX1_count_3 (by rw [c31]; decide) (by rw [c31]; decide) (by rw [c31]; rfl) (by decide) ?_
    refine r_aload_n h 1 dX1_count_136 rfl rfl ?_
    obtain ⟨k32, hf⟩ := hf
    obtain ⟨b33, e34, hf⟩ := hf
    refine g573 h dX1_count_137 k32 e34 ?_
    obtain ⟨k35, hf⟩ := hf
    refine g362 h dX1_count_140 k35 ?_
    exact r_ireturn h hq dX1_count_143 ⟨_, rfl, hf⟩
  have hf := ite_f c31 hf
  by_cases c36 : a1 = 7
  · have hf := ite_t c36 hf
    refine r_tableIn (off := 141) (tgt := 144) h dX1_count_3 (by rw [c36]; decide) (by rw [c36]; decide) (by rw [c36]; rfl) (by decide) ?_
    refine r_aload_n h 1 dX1_count_144 rfl rfl ?_
    obtain ⟨k37, hf⟩ := hf
    obtain ⟨b38, e39, hf⟩ := hf
    refine g573 h dX1_count_145 k37 e39 ?_
    obtain ⟨k40, hf⟩ := hf
    refine g366 h dX1_count_148 k40 ?_
    exact r_ireturn h hq dX1_count_151 ⟨_, rfl, hf⟩
  have hf := ite_f c36 hf
  by_cases c41 : a1 = 8
  · have hf := ite_t c41 hf
    refine r_tableIn (off := 149) (tgt := 152) h dX1_count_3 (by rw [c41]; decide) (by rw [c41]; decide) (by rw [c41]; rfl) (by decide) ?_
    refine r_aload_n h 1 dX1_count_152 rfl rfl ?_
    obtain ⟨k42, hf⟩ := hf
    obtain ⟨b43, e44, hf⟩ := hf
    refine g573 h dX1_count_153 k42 e44 ?_
    obtain ⟨k45, hf⟩ := hf
    refine g364 h dX1_count_156 k45 ?_
    exact r_ireturn h hq dX1_count_159 ⟨_, rfl, hf⟩
  have hf := ite_f c41 hf
  by_cases c46 : a1 = 9
  · have hf := ite_t c46 hf
    refine r_tableIn (off := 157) (tgt := 160) h dX1_count_3 (by rw [c46]; decide) (by rw [c46]; decide) (by rw [c46]; rfl) (by decide) ?_
    refine r_aload_n h 1 dX1_count_160 rfl rfl ?_
    obtain ⟨k47, hf⟩ := hf
    obtain ⟨b48, e49, hf⟩ := hf
    refine g573 h dX1_count_161 k47 e49 ?_
    obtain ⟨k50, hf⟩ := hf
    refine g381 h dX1_count_164 k50 ?_
    exact r_ireturn h hq dX1_count_167 ⟨_, rfl, hf⟩
  have hf := ite_f c46 hf
  by_cases c51 : a1 = 10
  · have hf := ite_t c51 hf
    refine r_tableIn (off := 165) (tgt := 168) h dX1_count_3 (by rw [c51]; decide) (by rw [c51]; decide) (by rw [c51]; rfl) (by decide) ?_
    refine r_aload_n h 1 dX1_count_168 rfl rfl ?_
    obtain ⟨k52, hf⟩ := hf
    obtain ⟨b53, e54, hf⟩ := hf
    refine g573 h dX1_count_169 k52 e54 ?_
    obtain ⟨k55, hf⟩ := hf
    refine g369 h dX1_count_172 k55 ?_
    exact r_ireturn h hq dX1_count_175 ⟨_, rfl, hf⟩
  have hf := ite_f c51 hf
  by_cases c56 : a1 = 11
  · have hf := ite_t c56 hf
    refine r_tableIn (off := 173) (tgt := 176) h dX1_count_3 (by rw [c56]; decide) (by rw [c56]; decide) (by rw [c56]; rfl) (by decide) ?_
    refine r_aload_n h 1 dX1_count_176 rfl rfl ?_
    obtain ⟨k57, hf⟩ := hf
    obtain ⟨b58, e59, hf⟩ := hf
    refine g573 h dX1_count_177 k57 e59 ?_
    obtain ⟨k60, hf⟩ := hf
    refine g372 h dX1_count_180 k60 ?_
    exact r_ireturn h hq dX1_count_183 ⟨_, rfl, hf⟩
  have hf := ite_f c56 hf
  by_cases c61 : a1 = 12
  · have hf := ite_t c61 hf
    refine r_tableIn (off := 181) (tgt := 184) h dX1_count_3 (by rw [c61]; decide) (by rw [c61]; decide) (by rw [c61]; rfl) (by decide) ?_
    refine r_aload_n h 1 dX1_count_184 rfl rfl ?_
    obtain ⟨k62, hf⟩ := hf
    obtain ⟨b63, e64, hf⟩ := hf
    refine g573 h dX1_count_185 k62 e64 ?_
    obtain ⟨k65, hf⟩ := hf
    refine g375 h dX1_count_188 k65 ?_
    exact r_ireturn h hq dX1_count_191 ⟨_, rfl, hf⟩
  have hf := ite_f c61 hf
  by_cases c66 : a1 = 13
  · have hf := ite_t c66 hf
    refine r_tableIn (off := 189) (tgt := 192) h dX1_count_3 (by rw [c66]; decide) (by rw [c66]; decide) (by rw [c66]; rfl) (by decide) ?_
    refine r_aload_n h 1 dX1_count_192 rfl rfl ?_
    obtain ⟨k67, hf⟩ := hf
    obtain ⟨b68, e69, hf⟩ := hf
    refine g573 h dX1_count_193 k67 e69 ?_
    obtain ⟨k70, hf⟩ := hf
    refine g378 h dX1_count_196 k70 ?_
    exact r_ireturn h hq dX1_count_199 ⟨_, rfl, hf⟩
  have hf := ite_f c66 hf
  by_cases c71 : a1 = 14
  · have hf := ite_t c71 hf
    refine r_tableIn (off := 197) (tgt := 200) h dX1_count_3 (by rw [c71]; decide) (by rw [c71]; decide) (by rw [c71]; rfl) (by decide) ?_
    refine r_aload_n h 1 dX1_count_200 rfl rfl ?_
    obtain ⟨k72, hf⟩ := hf
    obtain ⟨b73, e74, hf⟩ := hf
    refine g573 h dX1_count_201 k72 e74 ?_
    obtain ⟨k75, hf⟩ := hf
    refine g383 h dX1_count_204 k75 ?_
    exact r_ireturn h hq dX1_count_207 ⟨_, rfl, hf⟩
  have hf := ite_f c71 hf
  by_cases c76 : a1 = 15
  · have hf := ite_t c76 hf
    refine r_tableIn (off := 205) (tgt := 208) h dX1_count_3 (by rw [c76]; decide) (by rw [c76]; decide) (by rw [c76]; rfl) (by decide) ?_
    refine r_iconst (v := 0) h dX1_count_208 (by decide) ?_
    refine r_istore_n (lv' := [(3, .int 0), (2, .int 0), (0, .ref a0), (1, .int a1)]) h dX1_count_209 rfl (by decide) rfl ?_
    exact V.sub [2, 1, 0] rfl hf
  have hf := ite_f c76 hf
  by_cases c77 : a1 = 16
  · have hf := ite_t c77 hf
    refine r_tableIn (off := 250) (tgt := 253) h dX1_count_3 (by rw [c77]; decide) (by rw [c77]; decide) (by rw [c77]; rfl) (by decide) ?_
    refine r_iconst (v := 0) h dX1_count_253 (by decide) ?_
    refine r_istore_n (lv' := [(3, .int 0), (2, .int 0), (0, .ref a0), (1, .int a1)]) h dX1_count_254 rfl (by decide) rfl ?_
    exact V.sub [2, 1, 0] rfl hf
  have hf := ite_f c77 hf
  by_cases c78 : a1 = 17
  · have hf := ite_t c78 hf
    refine r_tableIn (off := 308) (tgt := 311) h dX1_count_3 (by rw [c78]; decide) (by rw [c78]; decide) (by rw [c78]; rfl) (by decide) ?_
    refine r_aload_n h 1 dX1_count_311 rfl rfl ?_
    obtain ⟨k79, hf⟩ := hf
    refine g585 h dX1_count_312 k79 ?_
    exact r_ireturn h hq dX1_count_315 ⟨_, rfl, hf⟩
  have hf := ite_f c78 hf
  refine r_tableOut (tgt := 316) h dX1_count_3 (gSw0_18 c1 c6 c11 c16 c21 c26 c31 c36 c41 c46 c51 c56 c61 c66 c71 c76 c77 c78) (by decide) ?_
  refine r_iconst (v := (-1)) h dX1_count_316 (by decide) ?_
  exact r_ireturn h hq dX1_count_317 ⟨_, rfl, hf⟩
theorem c803 {l : Launch} {G : gG} {X : gX} {cc : ByteArray} {nL F L bc bs pc : Nat} {M : gM} {lv : List (Nat × Value)} {rest : List Value} {a0 : Nat} {a1 : Int32} {K : Int32 → gM → Prop} (hl : l.stackTraces = false) (h : hX l G X cc nL "GlacierMailLaw" F L) (d : decode cc pc = .ok (.invokevirtual 303, 3)) (hk : kd M a0 = some (.inl 1)) (hf : f_X1_count a0 a1 M K) (hst : (rest.map fun v => v.category).sum ≤ 8) (hF : 32 ≤ F) (hL : 713 ≤ L) (kk : ∀ x M1, K x M1 → V l G X bc bs M1 (pc + 3) lv (.int x :: rest)) : V l G X bc bs M pc lv (.int a1 :: .ref a0 :: rest) := r_callV (n := 1) (As := [.int a1]) h (m_X1_count hl hf) 1 rfl hk rfl ⟨by decide, by decide, by decide +kernel⟩ d q803 q804 q805 q135 q806 rfl rfl hst hF hL (Nat.zero_le _) (Nat.zero_le _) (kI_go kk) kN_go
def f_X10_thrown (a0 : Nat) (M : gM) (K : Int32 → gM → Prop) : Prop :=
  kd M a0 = some (.inl 10) ∧ K (iv M a0 0) M
set_option maxHeartbeats 4000000 in
theorem m_X10_thrown {l : Launch} (hl : l.stackTraces = false) {G : gG} {a0 : Nat} {M : gM} {K : Int32 → gM → Prop} (hf : f_X10_thrown a0 M K) : gMet l G yX10_thrown (ws_ yX10_thrown cX10_thrown 1 (some Jvm.ClassFile.FieldType.int)) ({ frames := 0, cells := 0, slots := 0, locals := 0 }) M [.ref a0] (kI K) kN := by
  refine gm_of hl (ret := (some Jvm.ClassFile.FieldType.int)) rfl (Nat.le_of_ble_eq_true rfl) (fun X h hq => ?_)
  have h : hX l G X cX10_thrown 1 "GlacierMailModel" 0 0 := h
  have hf := hf
  show V l G X 0 0 M 0 [(0, .ref a0)] []
  unfold f_X10_thrown at hf
  refine r_aload_n h 0 dX10_thrown_0 rfl rfl ?_
  obtain ⟨k1, hf⟩ := hf
  refine g1597 h dX10_thrown_1 k1 ?_
  exact r_ireturn h hq dX10_thrown_4 ⟨_, rfl, hf⟩
theorem c1582 {l : Launch} {G : gG} {X : gX} {cc : ByteArray} {nL F L bc bs pc : Nat} {M : gM} {lv : List (Nat × Value)} {rest : List Value} {a0 : Nat} {K : Int32 → gM → Prop} (hl : l.stackTraces = false) (h : hX l G X cc nL "GlacierMailLaw" F L) (d : decode cc pc = .ok (.invokevirtual 155, 3)) (hk : kd M a0 = some (.inl 10)) (hf : f_X10_thrown a0 M K) (hst : (rest.map fun v => v.category).sum ≤ 8) (hF : 1 ≤ F) (hL : 20 ≤ L) (kk : ∀ x M1, K x M1 → V l G X bc bs M1 (pc + 3) lv (.int x :: rest)) : V l G X bc bs M pc lv (.ref a0 :: rest) := r_callV (n := 0) (As := []) h (m_X10_thrown hl hf) 10 rfl hk rfl ⟨by decide, by decide, by decide +kernel⟩ d q1582 q1583 q1584 q147 q1585 rfl rfl hst hF hL (Nat.zero_le _) (Nat.zero_le _) (kI_go kk) kN_go
def f_X10_warms (a0 : Nat) (M : gM) (K : gM → Prop) : Prop :=
  ∀ P10 : Nat → Int32 → Int32 → gM → Prop,
  (∀ (v0 : Nat) (v1 : Int32) (v2 : Int32) (M : gM), (if 300 ≤ v2 then kd M v0 = some (.inl 10) ∧ ∀ M7, M7 = sI M v0 26 (-1) → K M7 else kd M v0 = some (.inl 10) ∧ ∃ b9, rv M v0 24 = some b9 ∧ inA M b9 0 v2 ∧ ∀ M12, M12 = sI M b9 (ix v2) ((((((1103515245 : Int32) * v1) + 12345) >>> ((16 : Int32) &&& 31)) &&& 32767) - (((((1103515245 : Int32) * v1) + 12345) >>> ((16 : Int32) &&& 31)) &&& 32767) / 10 * 10) → P10 v0 (((1103515245 : Int32) * v1) + 12345) (v2 + 1) M12) → P10 v0 v1 v2 M) →
  kd M a0 = some (.inl 10) ∧ ∃ b2, rv M a0 1 = some b2 ∧ inA M b2 0 13 ∧ P10 a0 (iv M b2 (ix 13)) 0 M
set_option maxHeartbeats 4000000 in
theorem m_X10_warms {l : Launch} (hl : l.stackTraces = false) {G : gG} {a0 : Nat} {M : gM} {K : gM → Prop} (hf : f_X10_warms a0 M K) : gMet l G yX10_warms (ws_ yX10_warms cX10_warms 3 none) ({ frames := 0, cells := 0, slots := 0, locals := 0 }) M [.ref a0] (kV K) kN := by
  refine gm_of hl (ret := none) rfl (Nat.le_of_ble_eq_true rfl) (fun X h hq => ?_)
  have h : hX l G X cX10_warms 3 "GlacierMailModel" 0 0 := h
  have hf := hf
  show V l G X 0 0 M 0 [(0, .ref a0)] []
  have hf := hf
    (fun v0 v1 v2 M => V l G X 0 0 M 10 [(0, .ref v0), (1, .int v1), (2, .int v2)] [])
    (by
      intro v0 v1 v2 M hf
      show V l G X 0 0 M 10 [(0, .ref v0), (1, .int v1), (2, .int v2)] []
      refine r_iload_n h 2 dX10_warms_10 rfl rfl ?_
      refine r_sipush (v := 300) h dX10_warms_11 (by decide) ?_
      refine r_icmp_ge (tgt := 50) h dX10_warms_14 (by decide) (fun c5 => ?_) (fun c5 => ?_)
      · have hf := ite_t c5 hf
        refine r_aload_n h 0 dX10_warms_50 rfl rfl ?_
        refine r_iconst (v := (-1)) h dX10_warms_51 (by decide) ?_
        obtain ⟨k6, hf⟩ := hf
        refine p1623 h dX10_warms_52 k6 ?_
        refine r_goW (fun M7 eM7 => ?_)
        have hf := hf M7 eM7
        exact r_return h hq dX10_warms_55 ⟨rfl, hf⟩
      · have hf := ite_f c5 hf
        refine r_ldcw (v := 1103515245) h dX10_warms_17 q1596 ?_
        refine r_iload_n h 1 dX10_warms_20 rfl rfl ?_
        refine r_imul h dX10_warms_21 ?_
        refine r_sipush (v := 12345) h dX10_warms_22 (by decide) ?_
        refine r_iadd h dX10_warms_25 ?_
        refine r_istore_n (lv' := [(1, .int (((1103515245 : Int32) * v1) + 12345)), (0, .ref v0), (2, .int v2)]) h dX10_warms_26 rfl (by decide) rfl ?_
        refine r_aload_n h 1 dX10_warms_27 rfl rfl ?_
        obtain ⟨k8, hf⟩ := hf
        obtain ⟨b9, e10, hf⟩ := hf
        refine g1621 h dX10_warms_28 k8 e10 ?_
        refine r_iload_n h 2 dX10_warms_31 rfl rfl ?_
        refine r_iload_n h 0 dX10_warms_32 rfl rfl ?_
        refine r_bipush (v := 16) h dX10_warms_33 (by decide) ?_
        refine r_ishr h dX10_warms_35 ?_
        refine r_sipush (v := 32767) h dX10_warms_36 (by decide) ?_
        refine r_iand h dX10_warms_39 ?_
        refine r_bipush (v := 10) h dX10_warms_40 (by decide) ?_
        refine r_irem h dX10_warms_42 (by decide) ?_
        obtain ⟨j11, hf⟩ := hf
        refine r_iastore h dX10_warms_43 j11 ?_
        refine r_goW (fun M12 eM12 => ?_)
        have hf := hf M12 eM12
        refine r_iinc (v := v2 + 1) (lv' := [(2, .int (v2 + 1)), (1, .int (((1103515245 : Int32) * v1) + 12345)), (0, .ref v0)]) h 2 dX10_warms_44 rfl rfl (by decide) rfl ?_
        refine r_goto (tgt := 10) h dX10_warms_47 (by decide) ?_
        exact V.sub [2, 1, 0] rfl hf)
  refine r_aload_n h 0 dX10_warms_0 rfl rfl ?_
  obtain ⟨k1, hf⟩ := hf
  obtain ⟨b2, e3, hf⟩ := hf
  refine g1598 h dX10_warms_1 k1 e3 ?_
  refine r_bipush (v := 13) h dX10_warms_4 (by decide) ?_
  obtain ⟨j4, hf⟩ := hf
  refine r_iaload h dX10_warms_6 j4 ?_
  refine r_istore_n (lv' := [(1, .int (iv M b2 (ix 13))), (0, .ref a0)]) h dX10_warms_7 rfl (by decide) rfl ?_
  refine r_iconst (v := 0) h dX10_warms_8 (by decide) ?_
  refine r_istore_n (lv' := [(2, .int 0), (1, .int (iv M b2 (ix 13))), (0, .ref a0)]) h dX10_warms_9 rfl (by decide) rfl ?_
  exact V.sub [2, 1, 0] rfl hf
theorem c1592 {l : Launch} {G : gG} {X : gX} {cc : ByteArray} {nL F L bc bs pc : Nat} {M : gM} {lv : List (Nat × Value)} {rest : List Value} {a0 : Nat} {K : gM → Prop} (hl : l.stackTraces = false) (h : hX l G X cc nL "GlacierMailModel" F L) (d : decode cc pc = .ok (.invokevirtual 72, 3)) (hk : kd M a0 = some (.inl 10)) (hf : f_X10_warms a0 M K) (hst : (rest.map fun v => v.category).sum ≤ 8) (hF : 1 ≤ F) (hL : 22 ≤ L) (kk : ∀ M1, K M1 → V l G X bc bs M1 (pc + 3) lv rest) : V l G X bc bs M pc lv (.ref a0 :: rest) := r_callV (n := 0) (As := []) h (m_X10_warms hl hf) 10 rfl hk rfl ⟨by decide, by decide, by decide +kernel⟩ d q1592 q1594 qs51 q147 q1595 rfl rfl hst hF hL (Nat.zero_le _) (Nat.zero_le _) (kV_go kk) kN_go
def f_X10_init (a0 : Nat) (M : gM) (K : gM → Prop) : Prop :=
  ∀ M1, M1 = sN M (.inr (0, 2093)) → kd M1 a0 = some (.inl 10) ∧ ∀ M3, M3 = sR M1 a0 1 (some (sz M)) → ∀ M4, M4 = sN M3 (.inr (0, 1244)) → kd M4 a0 = some (.inl 10) ∧ ∀ M6, M6 = sR M4 a0 2 (some (sz M3)) → ∀ M7, M7 = sN M6 (.inr (0, 1244)) → kd M7 a0 = some (.inl 10) ∧ ∀ M9, M9 = sR M7 a0 3 (some (sz M6)) → ∀ M10, M10 = sN M9 (.inr (0, 4740)) → kd M10 a0 = some (.inl 10) ∧ ∀ M12, M12 = sR M10 a0 4 (some (sz M9)) → ∀ M13, M13 = sN M12 (.inr (1, 400)) → kd M13 a0 = some (.inl 10) ∧ ∀ M15, M15 = sR M13 a0 7 (some (sz M12)) → kd M15 a0 = some (.inl 10) ∧ ∀ M17, M17 = sI M15 a0 13 (-1) → ∀ M18, M18 = sN M17 (.inr (0, 5)) → kd M18 a0 = some (.inl 10) ∧ ∀ M20, M20 = sR M18 a0 14 (some (sz M17)) → ∀ M21, M21 = sN M20 (.inr (0, 400)) → kd M21 a0 = some (.inl 10) ∧ ∀ M23, M23 = sR M21 a0 16 (some (sz M20)) → ∀ M24, M24 = sN M23 (.inr (0, 300)) → kd M24 a0 = some (.inl 10) ∧ ∀ M26, M26 = sR M24 a0 24 (some (sz M23)) → ∀ M27, M27 = sN M26 (.inr (1, 29700)) → kd M27 a0 = some (.inl 10) ∧ ∀ M29, M29 = sR M27 a0 25 (some (sz M26)) → ∀ M30, M30 = sN M29 (.inr (0, 300)) → kd M30 a0 = some (.inl 10) ∧ ∀ M32, M32 = sR M30 a0 27 (some (sz M29)) → ∀ M33, M33 = sN M32 (.inr (0, 300)) → kd M33 a0 = some (.inl 10) ∧ ∀ M35, M35 = sR M33 a0 28 (some (sz M32)) → ∀ M36, M36 = sN M35 (.inr (0, 24)) → kd M36 a0 = some (.inl 10) ∧ ∀ M38, M38 = sR M36 a0 31 (some (sz M35)) → ∀ M39, M39 = sN M38 (.inr (0, 300)) → kd M39 a0 = some (.inl 10) ∧ ∀ M41, M41 = sR M39 a0 32 (some (sz M38)) → ∀ M42, M42 = sN M41 (.inr (0, 2408)) → kd M42 a0 = some (.inl 10) ∧ ∀ M44, M44 = sR M42 a0 33 (some (sz M41)) → ∀ M45, M45 = sN M44 (.inr (0, 2408)) → kd M45 a0 = some (.inl 10) ∧ ∀ M47, M47 = sR M45 a0 34 (some (sz M44)) → ∀ M48, M48 = sN M47 (.inr (0, 2408)) → kd M48 a0 = some (.inl 10) ∧ ∀ M50, M50 = sR M48 a0 35 (some (sz M47)) → ∀ M51, M51 = sN M50 (.inr (0, 6)) → kd M51 a0 = some (.inl 10) ∧ ∀ M53, M53 = sR M51 a0 37 (some (sz M50)) → ∀ M54, M54 = sN M53 (.inr (0, 6)) → kd M54 a0 = some (.inl 10) ∧ ∀ M56, M56 = sR M54 a0 38 (some (sz M53)) → kd M56 a0 = some (.inl 10) ∧ ∃ b58, rv M56 a0 1 = some b58 ∧ inA M56 b58 0 0 ∧ ∀ M61, M61 = sI M56 b58 (ix 0) 3 → kd M61 a0 = some (.inl 10) ∧ ∃ b63, rv M61 a0 1 = some b63 ∧ inA M61 b63 0 1 ∧ ∀ M66, M66 = sI M61 b63 (ix 1) 40 → kd M66 a0 = some (.inl 10) ∧ ∃ b68, rv M66 a0 1 = some b68 ∧ inA M66 b68 0 10 ∧ ∀ M71, M71 = sI M66 b68 (ix 10) 10 → kd M71 a0 = some (.inl 10) ∧ ∃ b73, rv M71 a0 1 = some b73 ∧ inA M71 b73 0 11 ∧ ∀ M76, M76 = sI M71 b73 (ix 11) 2 → kd M76 a0 = some (.inl 10) ∧ ∃ b78, rv M76 a0 1 = some b78 ∧ inA M76 b78 0 12 ∧ ∀ M81, M81 = sI M76 b78 (ix 12) 3 → kd M81 a0 = some (.inl 10) ∧ ∃ b83, rv M81 a0 1 = some b83 ∧ inA M81 b83 0 13 ∧ ∀ M86, M86 = sI M81 b83 (ix 13) 1 → kd M86 a0 = some (.inl 10) ∧ f_X10_warms a0 M86 (fun M88 => K M88)
set_option maxHeartbeats 4000000 in
theorem m_X10_init {l : Launch} (hl : l.stackTraces = false) {G : gG} {a0 : Nat} {M : gM} {K : gM → Prop} (hf : f_X10_init a0 M K) : gMet l G yX10_init (ws_ yX10_init cX10_init 1 none) ({ frames := 1, cells := 18, slots := 48286, locals := 22 }) M [.ref a0] (kV K) kN := by
  refine gm_of hl (ret := none) rfl (Nat.le_of_ble_eq_true rfl) (fun X h hq => ?_)
  have h : hX l G X cX10_init 1 "GlacierMailModel" 1 22 := h
  have hf := hf
  show V l G X 18 48286 M 0 [(0, .ref a0)] []
  unfold f_X10_init at hf
  refine r_aload_n h 0 dX10_init_0 rfl rfl ?_
  refine r_objinit h q1591 q175 q176 dX10_init_1 (by decide) (by decide) (Nat.le_of_ble_eq_true rfl) ?_
  refine r_aload_n h 0 dX10_init_4 rfl rfl ?_
  refine r_sipush (v := 2093) h dX10_init_5 (by decide) ?_
  refine r_newarray h 0 (by decide) rfl q230 (N := 2093) dX10_init_8 (by decide) (by decide) (by decide) (by decide) (by decide) ?_
  refine r_goW (fun M1 eM1 => ?_)
  have hf := hf M1 eM1
  obtain ⟨k2, hf⟩ := hf
  refine p1598 h hq dX10_init_10 k2 ?_
  refine r_goW (fun M3 eM3 => ?_)
  have hf := hf M3 eM3
  refine r_aload_n h 0 dX10_init_13 rfl rfl ?_
  refine r_sipush (v := 1244) h dX10_init_14 (by decide) ?_
  refine r_newarray h 0 (by decide) rfl q230 (N := 1244) dX10_init_17 (by decide) (by decide) (by decide) (by decide) (by decide) ?_
  refine r_goW (fun M4 eM4 => ?_)
  have hf := hf M4 eM4
  obtain ⟨k5, hf⟩ := hf
  refine p1599 h hq dX10_init_19 k5 ?_
  refine r_goW (fun M6 eM6 => ?_)
  have hf := hf M6 eM6
  refine r_aload_n h 0 dX10_init_22 rfl rfl ?_
  refine r_sipush (v := 1244) h dX10_init_23 (by decide) ?_
  refine r_newarray h 0 (by decide) rfl q230 (N := 1244) dX10_init_26 (by decide) (by decide) (by decide) (by decide) (by decide) ?_
  refine r_goW (fun M7 eM7 => ?_)
  have hf := hf M7 eM7
  obtain ⟨k8, hf⟩ := hf
  refine p1600 h hq dX10_init_28 k8 ?_
  refine r_goW (fun M9 eM9 => ?_)
  have hf := hf M9 eM9
  refine r_aload_n h 0 dX10_init_31 rfl rfl ?_
  refine r_sipush (v := 4740) h dX10_init_32 (by decide) ?_
  refine r_newarray h 0 (by decide) rfl q230 (N := 4740) dX10_init_35 (by decide) (by decide) (by decide) (by decide) (by decide) ?_
  refine r_goW (fun M10 eM10 => ?_)
  have hf := hf M10 eM10
  obtain ⟨k11, hf⟩ := hf
  refine p1601 h hq dX10_init_37 k11 ?_
  refine r_goW (fun M12 eM12 => ?_)
  have hf := hf M12 eM12
  refine r_aload_n h 0 dX10_init_40 rfl rfl ?_
  refine r_sipush (v := 400) h dX10_init_41 (by decide) ?_
  refine r_newarray h 1 (by decide) rfl q229 (N := 400) dX10_init_44 (by decide) (by decide) (by decide) (by decide) (by decide) ?_
  refine r_goW (fun M13 eM13 => ?_)
  have hf := hf M13 eM13
  obtain ⟨k14, hf⟩ := hf
  refine p1604 h hq dX10_init_46 k14 ?_
  refine r_goW (fun M15 eM15 => ?_)
  have hf := hf M15 eM15
  refine r_aload_n h 0 dX10_init_49 rfl rfl ?_
  refine r_iconst (v := (-1)) h dX10_init_50 (by decide) ?_
  obtain ⟨k16, hf⟩ := hf
  refine p1610 h dX10_init_51 k16 ?_
  refine r_goW (fun M17 eM17 => ?_)
  have hf := hf M17 eM17
  refine r_aload_n h 0 dX10_init_54 rfl rfl ?_
  refine r_iconst (v := 5) h dX10_init_55 (by decide) ?_
  refine r_newarray h 0 (by decide) rfl q230 (N := 5) dX10_init_56 (by decide) (by decide) (by decide) (by decide) (by decide) ?_
  refine r_goW (fun M18 eM18 => ?_)
  have hf := hf M18 eM18
  obtain ⟨k19, hf⟩ := hf
  refine p1611 h hq dX10_init_58 k19 ?_
  refine r_goW (fun M20 eM20 => ?_)
  have hf := hf M20 eM20
  refine r_aload_n h 0 dX10_init_61 rfl rfl ?_
  refine r_sipush (v := 400) h dX10_init_62 (by decide) ?_
  refine r_newarray h 0 (by decide) rfl q230 (N := 400) dX10_init_65 (by decide) (by decide) (by decide) (by decide) (by decide) ?_
  refine r_goW (fun M21 eM21 => ?_)
  have hf := hf M21 eM21
  obtain ⟨k22, hf⟩ := hf
  refine p1613 h hq dX10_init_67 k22 ?_
  refine r_goW (fun M23 eM23 => ?_)
  have hf := hf M23 eM23
  refine r_aload_n h 0 dX10_init_70 rfl rfl ?_
  refine r_sipush (v := 300) h dX10_init_71 (by decide) ?_
  refine r_newarray h 0 (by decide) rfl q230 (N := 300) dX10_init_74 (by decide) (by decide) (by decide) (by decide) (by decide) ?_
  refine r_goW (fun M24 eM24 => ?_)
  have hf := hf M24 eM24
  obtain ⟨k25, hf⟩ := hf
  refine p1621 h hq dX10_init_76 k25 ?_
  refine r_goW (fun M26 eM26 => ?_)
  have hf := hf M26 eM26
  refine r_aload_n h 0 dX10_init_79 rfl rfl ?_
  refine r_sipush (v := 29700) h dX10_init_80 (by decide) ?_
  refine r_newarray h 1 (by decide) rfl q229 (N := 29700) dX10_init_83 (by decide) (by decide) (by decide) (by decide) (by decide) ?_
  refine r_goW (fun M27 eM27 => ?_)
  have hf := hf M27 eM27
  obtain ⟨k28, hf⟩ := hf
  refine p1622 h hq dX10_init_85 k28 ?_
  refine r_goW (fun M29 eM29 => ?_)
  have hf := hf M29 eM29
  refine r_aload_n h 0 dX10_init_88 rfl rfl ?_
  refine r_sipush (v := 300) h dX10_init_89 (by decide) ?_
  refine r_newarray h 0 (by decide) rfl q230 (N := 300) dX10_init_92 (by decide) (by decide) (by decide) (by decide) (by decide) ?_
  refine r_goW (fun M30 eM30 => ?_)
  have hf := hf M30 eM30
  obtain ⟨k31, hf⟩ := hf
  refine p1624 h hq dX10_init_94 k31 ?_
  refine r_goW (fun M32 eM32 => ?_)
  have hf := hf M32 eM32
  refine r_aload_n h 0 dX10_init_97 rfl rfl ?_
  refine r_sipush (v := 300) h dX10_init_98 (by decide) ?_
  refine r_newarray h 0 (by decide) rfl q230 (N := 300) dX10_init_101 (by decide) (by decide) (by decide) (by decide) (by decide) ?_
  refine r_goW (fun M33 eM33 => ?_)
  have hf := hf M33 eM33
  obtain ⟨k34, hf⟩ := hf
  refine p1625 h hq dX10_init_103 k34 ?_
  refine r_goW (fun M35 eM35 => ?_)
  have hf := hf M35 eM35
  refine r_aload_n h 0 dX10_init_106 rfl rfl ?_
  refine r_bipush (v := 24) h dX10_init_107 (by decide) ?_
  refine r_newarray h 0 (by decide) rfl q230 (N := 24) dX10_init_109 (by decide) (by decide) (by decide) (by decide) (by decide) ?_
  refine r_goW (fun M36 eM36 => ?_)
  have hf := hf M36 eM36
  obtain ⟨k37, hf⟩ := hf
  refine p1628 h hq dX10_init_111 k37 ?_
  refine r_goW (fun M38 eM38 => ?_)
  have hf := hf M38 eM38
  refine r_aload_n h 0 dX10_init_114 rfl rfl ?_
  refine r_sipush (v := 300) h dX10_init_115 (by decide) ?_
  refine r_newarray h 0 (by decide) rfl q230 (N := 300) dX10_init_118 (by decide) (by decide) (by decide) (by decide) (by decide) ?_
  refine r_goW (fun M39 eM39 => ?_)
  have hf := hf M39 eM39
  obtain ⟨k40, hf⟩ := hf
  refine p1629 h hq dX10_init_120 k40 ?_
  refine r_goW (fun M41 eM41 => ?_)
  have hf := hf M41 eM41
  refine r_aload_n h 0 dX10_init_123 rfl rfl ?_
  refine r_sipush (v := 2408) h dX10_init_124 (by decide) ?_
  refine r_newarray h 0 (by decide) rfl q230 (N := 2408) dX10_init_127 (by decide) (by decide) (by decide) (by decide) (by decide) ?_
  refine r_goW (fun M42 eM42 => ?_)
  have hf := hf M42 eM42
  obtain ⟨k43, hf⟩ := hf
  refine p1630 h hq dX10_init_129 k43 ?_
  refine r_goW (fun M44 eM44 => ?_)
  have hf := hf M44 eM44
  refine r_aload_n h 0 dX10_init_132 rfl rfl ?_
  refine r_sipush (v := 2408) h dX10_init_133 (by decide) ?_
  refine r_newarray h 0 (by decide) rfl q230 (N := 2408) dX10_init_136 (by decide) (by decide) (by decide) (by decide) (by decide) ?_
  refine r_goW (fun M45 eM45 => ?_)
  have hf := hf M45 eM45
  obtain ⟨k46, hf⟩ := hf
  refine p1631 h hq dX10_init_138 k46 ?_
  refine r_goW (fun M47 eM47 => ?_)
  have hf := hf M47 eM47
  refine r_aload_n h 0 dX10_init_141 rfl rfl ?_
  refine r_sipush (v := 2408) h dX10_init_142 (by decide) ?_
  refine r_newarray h 0 (by decide) rfl q230 (N := 2408) dX10_init_145 (by decide) (by decide) (by decide) (by decide) (by decide) ?_
  refine r_goW (fun M48 eM48 => ?_)
  have hf := hf M48 eM48
  obtain ⟨k49, hf⟩ := hf
  refine p1632 h hq dX10_init_147 k49 ?_
  refine r_goW (fun M50 eM50 => ?_)
  have hf := hf M50 eM50
  refine r_aload_n h 0 dX10_init_150 rfl rfl ?_
  refine r_bipush (v := 6) h dX10_init_151 (by decide) ?_
  refine r_newarray h 0 (by decide) rfl q230 (N := 6) dX10_init_153 (by decide) (by decide) (by decide) (by decide) (by decide) ?_
  refine r_goW (fun M51 eM51 => ?_)
  have hf := hf M51 eM51
  obtain ⟨k52, hf⟩ := hf
  refine p1634 h hq dX10_init_155 k52 ?_
  refine r_goW (fun M53 eM53 => ?_)
  have hf := hf M53 eM53
  refine r_aload_n h 0 dX10_init_158 rfl rfl ?_
  refine r_bipush (v := 6) h dX10_init_159 (by decide) ?_
  refine r_newarray h 0 (by decide) rfl q230 (N := 6) dX10_init_161 (by decide) (by decide) (by decide) (by decide) (by decide) ?_
  refine r_goW (fun M54 eM54 => ?_)
  have hf := hf M54 eM54
  obtain ⟨k55, hf⟩ := hf
  refine p1635 h hq dX10_init_163 k55 ?_
  refine r_goW (fun M56 eM56 => ?_)
  have hf := hf M56 eM56
  refine r_aload_n h 0 dX10_init_166 rfl rfl ?_
  obtain ⟨k57, hf⟩ := hf
  obtain ⟨b58, e59, hf⟩ := hf
  refine g1598 h dX10_init_167 k57 e59 ?_
  refine r_iconst (v := 0) h dX10_init_170 (by decide) ?_
  refine r_iconst (v := 3) h dX10_init_171 (by decide) ?_
  obtain ⟨j60, hf⟩ := hf
  refine r_iastore h dX10_init_172 j60 ?_
  refine r_goW (fun M61 eM61 => ?_)
  have hf := hf M61 eM61
  refine r_aload_n h 0 dX10_init_173 rfl rfl ?_
  obtain ⟨k62, hf⟩ := hf
  obtain ⟨b63, e64, hf⟩ := hf
  refine g1598 h dX10_init_174 k62 e64 ?_
  refine r_iconst (v := 1) h dX10_init_177 (by decide) ?_
  refine r_bipush (v := 40) h dX10_init_178 (by decide) ?_
  obtain ⟨j65, hf⟩ := hf
  refine r_iastore h dX10_init_180 j65 ?_
  refine r_goW (fun M66 eM66 => ?_)
  have hf := hf M66 eM66
  refine r_aload_n h 0 dX10_init_181 rfl rfl ?_
  obtain ⟨k67, hf⟩ := hf
  obtain ⟨b68, e69, hf⟩ := hf
  refine g1598 h dX10_init_182 k67 e69 ?_
  refine r_bipush (v := 10) h dX10_init_185 (by decide) ?_
  refine r_bipush (v := 10) h dX10_init_187 (by decide) ?_
  obtain ⟨j70, hf⟩ := hf
  refine r_iastore h dX10_init_189 j70 ?_
  refine r_goW (fun M71 eM71 => ?_)
  have hf := hf M71 eM71
  refine r_aload_n h 0 dX10_init_190 rfl rfl ?_
  obtain ⟨k72, hf⟩ := hf
  obtain ⟨b73, e74, hf⟩ := hf
  refine g1598 h dX10_init_191 k72 e74 ?_
  refine r_bipush (v := 11) h dX10_init_194 (by decide) ?_
  refine r_iconst (v := 2) h dX10_init_196 (by decide) ?_
  obtain ⟨j75, hf⟩ := hf
  refine r_iastore h dX10_init_197 j75 ?_
  refine r_goW (fun M76 eM76 => ?_)
  have hf := hf M76 eM76
  refine r_aload_n h 0 dX10_init_198 rfl rfl ?_
  obtain ⟨k77, hf⟩ := hf
  obtain ⟨b78, e79, hf⟩ := hf
  refine g1598 h dX10_init_199 k77 e79 ?_
  refine r_bipush (v := 12) h dX10_init_202 (by decide) ?_
  refine r_iconst (v := 3) h dX10_init_204 (by decide) ?_
  obtain ⟨j80, hf⟩ := hf
  refine r_iastore h dX10_init_205 j80 ?_
  refine r_goW (fun M81 eM81 => ?_)
  have hf := hf M81 eM81
  refine r_aload_n h 0 dX10_init_206 rfl rfl ?_
  obtain ⟨k82, hf⟩ := hf
  obtain ⟨b83, e84, hf⟩ := hf
  refine g1598 h dX10_init_207 k82 e84 ?_
  refine r_bipush (v := 13) h dX10_init_210 (by decide) ?_
  refine r_iconst (v := 1) h dX10_init_212 (by decide) ?_
  obtain ⟨j85, hf⟩ := hf
  refine r_iastore h dX10_init_213 j85 ?_
  refine r_goW (fun M86 eM86 => ?_)
  have hf := hf M86 eM86
  refine r_aload_n h 0 dX10_init_214 rfl rfl ?_
  obtain ⟨k87, hf⟩ := hf
  refine c1592 hl h dX10_init_215 k87 hf (Nat.le_of_ble_eq_true rfl) (by decide) (by decide) (fun M88 hf => ?_)
  exact r_return h hq dX10_init_218 ⟨rfl, hf⟩
theorem c1588 {l : Launch} {G : gG} {X : gX} {cc : ByteArray} {nL F L bc bs pc : Nat} {M : gM} {lv : List (Nat × Value)} {rest : List Value} {a0 : Nat} {K : gM → Prop} (hl : l.stackTraces = false) (h : hX l G X cc nL "GlacierMailLaw" F L) (d : decode cc pc = .ok (.invokespecial 138, 3)) (hf : f_X10_init a0 M K) (hst : (rest.map fun v => v.category).sum ≤ 8) (hF : 2 ≤ F) (hL : 42 ≤ L) (h1 : 18 ≤ bc) (h2 : 48286 ≤ bs) (kk : ∀ M1, K M1 → V l G X (bc - 18) (bs - 48286) M1 (pc + 3) lv rest) : V l G X bc bs M pc lv (.ref a0 :: rest) := r_callI (n := 0) (As := []) h (m_X10_init hl hf) ⟨by decide, by decide, by decide +kernel⟩ rfl d q1588 q1589 q147 q1590 rfl rfl hst hF hL h1 h2 (kV_go kk) kN_go
def f_X10_image (a0 : Nat) (M : gM) (K : gM → Prop) : Prop :=
  ∀ P7 : Nat → Int32 → gM → Prop,
  (∀ (v0 : Nat) (v1 : Int32) (M : gM), (if 1244 ≤ v1 then kd M v0 = some (.inl 10) ∧ ∀ M5, M5 = sI M v0 5 1 → K M5 else kd M v0 = some (.inl 10) ∧ ∃ b7, rv M v0 2 = some b7 ∧ ∃ b9, rv M v0 1 = some b9 ∧ inA M b9 0 v1 ∧ inA M b7 0 v1 ∧ ∀ M13, M13 = sI M b7 (ix v1) (iv M b9 (ix v1)) → P7 v0 (v1 + 1) M13) → P7 v0 v1 M) →
  kd M a0 = some (.inl 10) ∧ ∀ M2, M2 = sI M a0 0 0 → P7 a0 0 M2
set_option maxHeartbeats 4000000 in
theorem m_X10_image {l : Launch} (hl : l.stackTraces = false) {G : gG} {a0 : Nat} {M : gM} {K : gM → Prop} (hf : f_X10_image a0 M K) : gMet l G yX10_image (ws_ yX10_image cX10_image 2 none) ({ frames := 0, cells := 0, slots := 0, locals := 0 }) M [.ref a0] (kV K) kN := by
  refine gm_of hl (ret := none) rfl (Nat.le_of_ble_eq_true rfl) (fun X h hq => ?_)
  have h : hX l G X cX10_image 2 "GlacierMailModel" 0 0 := h
  have hf := hf
  show V l G X 0 0 M 0 [(0, .ref a0)] []
  have hf := hf
    (fun v0 v1 M => V l G X 0 0 M 7 [(0, .ref v0), (1, .int v1)] [])
    (by
      intro v0 v1 M hf
      show V l G X 0 0 M 7 [(0, .ref v0), (1, .int v1)] []
      refine r_iload_n h 1 dX10_image_7 rfl rfl ?_
      refine r_sipush (v := 1244) h dX10_image_8 (by decide) ?_
      refine r_icmp_ge (tgt := 32) h dX10_image_11 (by decide) (fun c3 => ?_) (fun c3 => ?_)
      · have hf := ite_t c3 hf
        refine r_aload_n h 0 dX10_image_32 rfl rfl ?_
        refine r_iconst (v := 1) h dX10_image_33 (by decide) ?_
        obtain ⟨k4, hf⟩ := hf
        refine p1602 h dX10_image_34 k4 (by decide) ?_
        refine r_goW (fun M5 eM5 => ?_)
        have hf := hf M5 eM5
        exact r_return h hq dX10_image_37 ⟨rfl, hf⟩
      · have hf := ite_f c3 hf
        refine r_aload_n h 0 dX10_image_14 rfl rfl ?_
        obtain ⟨k6, hf⟩ := hf
        obtain ⟨b7, e8, hf⟩ := hf
        refine g1599 h dX10_image_15 k6 e8 ?_
        refine r_iload_n h 1 dX10_image_18 rfl rfl ?_
        refine r_aload_n h 0 dX10_image_19 rfl rfl ?_
        obtain ⟨b9, e10, hf⟩ := hf
        refine g1598 h dX10_image_20 k6 e10 ?_
        refine r_iload_n h 1 dX10_image_23 rfl rfl ?_
        obtain ⟨j11, hf⟩ := hf
        refine r_iaload h dX10_image_24 j11 ?_
        obtain ⟨j12, hf⟩ := hf
        refine r_iastore h dX10_image_25 j12 ?_
        refine r_goW (fun M13 eM13 => ?_)
        have hf := hf M13 eM13
        refine r_iinc (v := v1 + 1) (lv' := [(1, .int (v1 + 1)), (0, .ref v0)]) h 1 dX10_image_26 rfl rfl (by decide) rfl ?_
        refine r_goto (tgt := 7) h dX10_image_29 (by decide) ?_
        exact V.sub [1, 0] rfl hf)
  refine r_aload_n h 0 dX10_image_0 rfl rfl ?_
  refine r_iconst (v := 0) h dX10_image_1 (by decide) ?_
  obtain ⟨k1, hf⟩ := hf
  refine p1597 h dX10_image_2 k1 ?_
  refine r_goW (fun M2 eM2 => ?_)
  have hf := hf M2 eM2
  refine r_iconst (v := 0) h dX10_image_5 (by decide) ?_
  refine r_istore_n (lv' := [(1, .int 0), (0, .ref a0)]) h dX10_image_6 rfl (by decide) rfl ?_
  exact V.sub [1, 0] rfl hf
theorem c1715 {l : Launch} {G : gG} {X : gX} {cc : ByteArray} {nL F L bc bs pc : Nat} {M : gM} {lv : List (Nat × Value)} {rest : List Value} {a0 : Nat} {K : gM → Prop} (hl : l.stackTraces = false) (h : hX l G X cc nL "GlacierMailLaw" F L) (d : decode cc pc = .ok (.invokevirtual 298, 3)) (hk : kd M a0 = some (.inl 10)) (hf : f_X10_image a0 M K) (hst : (rest.map fun v => v.category).sum ≤ 8) (hF : 1 ≤ F) (hL : 21 ≤ L) (kk : ∀ M1, K M1 → V l G X bc bs M1 (pc + 3) lv rest) : V l G X bc bs M pc lv (.ref a0 :: rest) := r_callV (n := 0) (As := []) h (m_X10_image hl hf) 10 rfl hk rfl ⟨by decide, by decide, by decide +kernel⟩ d q1715 q1716 q1717 q147 q1718 rfl rfl hst hF hL (Nat.zero_le _) (Nat.zero_le _) (kV_go kk) kN_go
def f_X10_back (a0 : Nat) (M : gM) (K : Int32 → gM → Prop) : Prop :=
  ∀ P16 : Nat → Int32 → gM → Prop,
  (∀ (v0 : Nat) (v1 : Int32) (M : gM), (if 1244 ≤ v1 then kd M v0 = some (.inl 10) ∧ ∀ M7, M7 = sI M v0 6 0 → kd M7 v0 = some (.inl 10) ∧ f_X10_warms v0 M7 (fun M9 => K 1 M9) else kd M v0 = some (.inl 10) ∧ ∃ b11, rv M v0 1 = some b11 ∧ ∃ b13, rv M v0 2 = some b13 ∧ inA M b13 0 v1 ∧ inA M b11 0 v1 ∧ ∀ M17, M17 = sI M b11 (ix v1) (iv M b13 (ix v1)) → P16 v0 (v1 + 1) M17) → P16 v0 v1 M) →
  kd M a0 = some (.inl 10) ∧ ∀ M2, M2 = sI M a0 0 0 → kd M2 a0 = some (.inl 10) ∧ if (iv M2 a0 5) = 0 then K 0 M2 else P16 a0 0 M2
set_option maxHeartbeats 4000000 in
theorem m_X10_back {l : Launch} (hl : l.stackTraces = false) {G : gG} {a0 : Nat} {M : gM} {K : Int32 → gM → Prop} (hf : f_X10_back a0 M K) : gMet l G yX10_back (ws_ yX10_back cX10_back 2 (some Jvm.ClassFile.FieldType.boolean)) ({ frames := 1, cells := 0, slots := 0, locals := 22 }) M [.ref a0] (kI K) kN := by
  refine gm_of hl (ret := (some Jvm.ClassFile.FieldType.boolean)) rfl (Nat.le_of_ble_eq_true rfl) (fun X h hq => ?_)
  have h : hX l G X cX10_back 2 "GlacierMailModel" 1 22 := h
  have hf := hf
  show V l G X 0 0 M 0 [(0, .ref a0)] []
  have hf := hf
    (fun v0 v1 M => V l G X 0 0 M 16 [(0, .ref v0), (1, .int v1)] [])
    (by
      intro v0 v1 M hf
      show V l G X 0 0 M 16 [(0, .ref v0), (1, .int v1)] []
      refine r_iload_n h 1 dX10_back_16 rfl rfl ?_
      refine r_sipush (v := 1244) h dX10_back_17 (by decide) ?_
      refine r_icmp_ge (tgt := 41) h dX10_back_20 (by decide) (fun c5 => ?_) (fun c5 => ?_)
      · have hf := ite_t c5 hf
        refine r_aload_n h 0 dX10_back_41 rfl rfl ?_
        refine r_iconst (v := 0) h dX10_back_42 (by decide) ?_
        obtain ⟨k6, hf⟩ := hf
        refine p1603 h dX10_back_43 k6 ?_
        refine r_goW (fun M7 eM7 => ?_)
        have hf := hf M7 eM7
        refine r_aload_n h 0 dX10_back_46 rfl rfl ?_
        obtain ⟨k8, hf⟩ := hf
        refine c1592 hl h dX10_back_47 k8 hf (Nat.le_of_ble_eq_true rfl) (by decide) (by decide) (fun M9 hf => ?_)
        refine r_iconst (v := 1) h dX10_back_50 (by decide) ?_
        exact r_zreturn h hq dX10_back_51 (by decide) ⟨_, rfl, hf⟩
      · have hf := ite_f c5 hf
        refine r_aload_n h 0 dX10_back_23 rfl rfl ?_
        obtain ⟨k10, hf⟩ := hf
        obtain ⟨b11, e12, hf⟩ := hf
        refine g1598 h dX10_back_24 k10 e12 ?_
        refine r_iload_n h 1 dX10_back_27 rfl rfl ?_
        refine r_aload_n h 0 dX10_back_28 rfl rfl ?_
        obtain ⟨b13, e14, hf⟩ := hf
        refine g1599 h dX10_back_29 k10 e14 ?_
        refine r_iload_n h 1 dX10_back_32 rfl rfl ?_
        obtain ⟨j15, hf⟩ := hf
        refine r_iaload h dX10_back_33 j15 ?_
        obtain ⟨j16, hf⟩ := hf
        refine r_iastore h dX10_back_34 j16 ?_
        refine r_goW (fun M17 eM17 => ?_)
        have hf := hf M17 eM17
        refine r_iinc (v := v1 + 1) (lv' := [(1, .int (v1 + 1)), (0, .ref v0)]) h 1 dX10_back_35 rfl rfl (by decide) rfl ?_
        refine r_goto (tgt := 16) h dX10_back_38 (by decide) ?_
        exact V.sub [1, 0] rfl hf)
  refine r_aload_n h 0 dX10_back_0 rfl rfl ?_
  refine r_iconst (v := 0) h dX10_back_1 (by decide) ?_
  obtain ⟨k1, hf⟩ := hf
  refine p1597 h dX10_back_2 k1 ?_
  refine r_goW (fun M2 eM2 => ?_)
  have hf := hf M2 eM2
  refine r_aload_n h 0 dX10_back_5 rfl rfl ?_
  obtain ⟨k3, hf⟩ := hf
  refine g1602 h dX10_back_6 k3 ?_
  refine r_if_ne (tgt := 14) h dX10_back_9 (by decide) (fun c4 => ?_) (fun c4 => ?_)
  · have hf := ite_f c4 hf
    refine r_iconst (v := 0) h dX10_back_14 (by decide) ?_
    refine r_istore_n (lv' := [(1, .int 0), (0, .ref a0)]) h dX10_back_15 rfl (by decide) rfl ?_
    exact V.sub [1, 0] rfl hf
  · have hf := ite_t c4 hf
    refine r_iconst (v := 0) h dX10_back_12 (by decide) ?_
    exact r_zreturn h hq dX10_back_13 (by decide) ⟨_, rfl, hf⟩
theorem c1719 {l : Launch} {G : gG} {X : gX} {cc : ByteArray} {nL F L bc bs pc : Nat} {M : gM} {lv : List (Nat × Value)} {rest : List Value} {a0 : Nat} {K : Int32 → gM → Prop} (hl : l.stackTraces = false) (h : hX l G X cc nL "GlacierMailLaw" F L) (d : decode cc pc = .ok (.invokevirtual 302, 3)) (hk : kd M a0 = some (.inl 10)) (hf : f_X10_back a0 M K) (hst : (rest.map fun v => v.category).sum ≤ 8) (hF : 2 ≤ F) (hL : 43 ≤ L) (kk : ∀ x M1, K x M1 → V l G X bc bs M1 (pc + 3) lv (.int x :: rest)) : V l G X bc bs M pc lv (.ref a0 :: rest) := r_callV (n := 0) (As := []) h (m_X10_back hl hf) 10 rfl hk rfl ⟨by decide, by decide, by decide +kernel⟩ d q1719 q1720 q1721 q147 q1722 rfl rfl hst hF hL (Nat.zero_le _) (Nat.zero_le _) (kI_go kk) kN_go
def f_X10_undo (a0 : Nat) (M : gM) (K : Int32 → gM → Prop) : Prop :=
  ∀ P26 : Nat → Int32 → gM → Prop,
  (∀ (v0 : Nat) (v1 : Int32) (M : gM), (if 395 ≤ v1 then K 1 M else kd M v0 = some (.inl 10) ∧ ∃ b8, rv M v0 1 = some b8 ∧ ∃ b10, rv M v0 4 = some b10 ∧ inA M b10 0 (((395 : Int32) * (iv M v0 6)) + v1) ∧ inA M b8 0 v1 ∧ ∀ M14, M14 = sI M b8 (ix v1) (iv M b10 (ix (((395 : Int32) * (iv M v0 6)) + v1))) → P26 v0 (v1 + 1) M14) → P26 v0 v1 M) →
  kd M a0 = some (.inl 10) ∧ ∀ M2, M2 = sI M a0 0 0 → kd M2 a0 = some (.inl 10) ∧ if (iv M2 a0 6) = 0 then K 0 M2 else ∀ M5, M5 = sI M2 a0 6 ((iv M2 a0 6) - 1) → P26 a0 0 M5
set_option maxHeartbeats 4000000 in
theorem m_X10_undo {l : Launch} (hl : l.stackTraces = false) {G : gG} {a0 : Nat} {M : gM} {K : Int32 → gM → Prop} (hf : f_X10_undo a0 M K) : gMet l G yX10_undo (ws_ yX10_undo cX10_undo 2 (some Jvm.ClassFile.FieldType.boolean)) ({ frames := 0, cells := 0, slots := 0, locals := 0 }) M [.ref a0] (kI K) kN := by
  refine gm_of hl (ret := (some Jvm.ClassFile.FieldType.boolean)) rfl (Nat.le_of_ble_eq_true rfl) (fun X h hq => ?_)
  have h : hX l G X cX10_undo 2 "GlacierMailModel" 0 0 := h
  have hf := hf
  show V l G X 0 0 M 0 [(0, .ref a0)] []
  have hf := hf
    (fun v0 v1 M => V l G X 0 0 M 26 [(0, .ref v0), (1, .int v1)] [])
    (by
      intro v0 v1 M hf
      show V l G X 0 0 M 26 [(0, .ref v0), (1, .int v1)] []
      refine r_iload_n h 1 dX10_undo_26 rfl rfl ?_
      refine r_sipush (v := 395) h dX10_undo_27 (by decide) ?_
      refine r_icmp_ge (tgt := 60) h dX10_undo_30 (by decide) (fun c6 => ?_) (fun c6 => ?_)
      · have hf := ite_t c6 hf
        refine r_iconst (v := 1) h dX10_undo_60 (by decide) ?_
        exact r_zreturn h hq dX10_undo_61 (by decide) ⟨_, rfl, hf⟩
      · have hf := ite_f c6 hf
        refine r_aload_n h 0 dX10_undo_33 rfl rfl ?_
        obtain ⟨k7, hf⟩ := hf
        obtain ⟨b8, e9, hf⟩ := hf
        refine g1598 h dX10_undo_34 k7 e9 ?_
        refine r_iload_n h 1 dX10_undo_37 rfl rfl ?_
        refine r_aload_n h 0 dX10_undo_38 rfl rfl ?_
        obtain ⟨b10, e11, hf⟩ := hf
        refine g1601 h dX10_undo_39 k7 e11 ?_
        refine r_sipush (v := 395) h dX10_undo_42 (by decide) ?_
        refine r_aload_n h 0 dX10_undo_45 rfl rfl ?_
        refine g1603 h dX10_undo_46 k7 ?_
        refine r_imul h dX10_undo_49 ?_
        refine r_iload_n h 1 dX10_undo_50 rfl rfl ?_
        refine r_iadd h dX10_undo_51 ?_
        obtain ⟨j12, hf⟩ := hf
        refine r_iaload h dX10_undo_52 j12 ?_
        obtain ⟨j13, hf⟩ := hf
        refine r_iastore h dX10_undo_53 j13 ?_
        refine r_goW (fun M14 eM14 => ?_)
        have hf := hf M14 eM14
        refine r_iinc (v := v1 + 1) (lv' := [(1, .int (v1 + 1)), (0, .ref v0)]) h 1 dX10_undo_54 rfl rfl (by decide) rfl ?_
        refine r_goto (tgt := 26) h dX10_undo_57 (by decide) ?_
        exact V.sub [1, 0] rfl hf)
  refine r_aload_n h 0 dX10_undo_0 rfl rfl ?_
  refine r_iconst (v := 0) h dX10_undo_1 (by decide) ?_
  obtain ⟨k1, hf⟩ := hf
  refine p1597 h dX10_undo_2 k1 ?_
  refine r_goW (fun M2 eM2 => ?_)
  have hf := hf M2 eM2
  refine r_aload_n h 0 dX10_undo_5 rfl rfl ?_
  obtain ⟨k3, hf⟩ := hf
  refine g1603 h dX10_undo_6 k3 ?_
  refine r_if_ne (tgt := 14) h dX10_undo_9 (by decide) (fun c4 => ?_) (fun c4 => ?_)
  · have hf := ite_f c4 hf
    refine r_aload_n h 0 dX10_undo_14 rfl rfl ?_
    refine r_dup h dX10_undo_15 rfl ?_
    refine g1603 h dX10_undo_16 k3 ?_
    refine r_iconst (v := 1) h dX10_undo_19 (by decide) ?_
    refine r_isub h dX10_undo_20 ?_
    refine p1603 h dX10_undo_21 k3 ?_
    refine r_goW (fun M5 eM5 => ?_)
    have hf := hf M5 eM5
    refine r_iconst (v := 0) h dX10_undo_24 (by decide) ?_
    refine r_istore_n (lv' := [(1, .int 0), (0, .ref a0)]) h dX10_undo_25 rfl (by decide) rfl ?_
    exact V.sub [1, 0] rfl hf
  · have hf := ite_t c4 hf
    refine r_iconst (v := 0) h dX10_undo_12 (by decide) ?_
    exact r_zreturn h hq dX10_undo_13 (by decide) ⟨_, rfl, hf⟩
theorem c1723 {l : Launch} {G : gG} {X : gX} {cc : ByteArray} {nL F L bc bs pc : Nat} {M : gM} {lv : List (Nat × Value)} {rest : List Value} {a0 : Nat} {K : Int32 → gM → Prop} (hl : l.stackTraces = false) (h : hX l G X cc nL "GlacierMailLaw" F L) (d : decode cc pc = .ok (.invokevirtual 294, 3)) (hk : kd M a0 = some (.inl 10)) (hf : f_X10_undo a0 M K) (hst : (rest.map fun v => v.category).sum ≤ 8) (hF : 1 ≤ F) (hL : 21 ≤ L) (kk : ∀ x M1, K x M1 → V l G X bc bs M1 (pc + 3) lv (.int x :: rest)) : V l G X bc bs M pc lv (.ref a0 :: rest) := r_callV (n := 0) (As := []) h (m_X10_undo hl hf) 10 rfl hk rfl ⟨by decide, by decide, by decide +kernel⟩ d q1723 q1724 q1725 q147 q1726 rfl rfl hst hF hL (Nat.zero_le _) (Nat.zero_le _) (kI_go kk) kN_go
def f_X10_feed (a0 : Nat) (a1 : Int32) (a2 : Int32) (a3 : Int32) (a4 : Int32) (a5 : Int32) (M : gM) (K : Int32 → gM → Prop) : Prop :=
  ∀ P60 : Nat → Int32 → gM → Prop,
  (∀ (v0 : Nat) (v6 : Int32) (M : gM), (if 20 ≤ v6 then kd M v0 = some (.inl 10) ∧ ∀ M31, M31 = sI M v0 8 ((iv M v0 8) + 20) → kd M31 v0 = some (.inl 10) ∧ K (iv M31 v0 8) M31 else kd M v0 = some (.inl 10) ∧ ∃ b34, rv M v0 7 = some b34 ∧ ∃ b36, rv M v0 14 = some b36 ∧ inA M b36 0 (v6 / 4) ∧ inA M b34 1 ((iv M v0 8) + v6) ∧ ∀ M40, M40 = sI M b34 (ix ((iv M v0 8) + v6)) (((iv M b36 (ix (v6 / 4))) >>> (((24 : Int32) - ((8 : Int32) * (v6 - v6 / 4 * 4))) &&& 31)).toInt8.toInt32).toInt8.toInt32 → P60 v0 (v6 + 1) M40) → P60 v0 v6 M) →
  kd M a0 = some (.inl 10) ∧ ∀ M2, M2 = sI M a0 0 0 → kd M2 a0 = some (.inl 10) ∧ if ((iv M2 a0 8) + 20) ≤ 400 then ∃ b5, rv M2 a0 14 = some b5 ∧ inA M2 b5 0 0 ∧ ∀ M8, M8 = sI M2 b5 (ix 0) a1 → kd M8 a0 = some (.inl 10) ∧ ∃ b10, rv M8 a0 14 = some b10 ∧ inA M8 b10 0 1 ∧ ∀ M13, M13 = sI M8 b10 (ix 1) a2 → kd M13 a0 = some (.inl 10) ∧ ∃ b15, rv M13 a0 14 = some b15 ∧ inA M13 b15 0 2 ∧ ∀ M18, M18 = sI M13 b15 (ix 2) a3 → kd M18 a0 = some (.inl 10) ∧ ∃ b20, rv M18 a0 14 = some b20 ∧ inA M18 b20 0 3 ∧ ∀ M23, M23 = sI M18 b20 (ix 3) a4 → kd M23 a0 = some (.inl 10) ∧ ∃ b25, rv M23 a0 14 = some b25 ∧ inA M23 b25 0 4 ∧ ∀ M28, M28 = sI M23 b25 (ix 4) a5 → P60 a0 0 M28 else K (-1) M2
set_option maxHeartbeats 4000000 in
theorem m_X10_feed {l : Launch} (hl : l.stackTraces = false) {G : gG} {a0 : Nat} {a1 : Int32} {a2 : Int32} {a3 : Int32} {a4 : Int32} {a5 : Int32} {M : gM} {K : Int32 → gM → Prop} (hf : f_X10_feed a0 a1 a2 a3 a4 a5 M K) : gMet l G yX10_feed (ws_ yX10_feed cX10_feed 7 (some Jvm.ClassFile.FieldType.int)) ({ frames := 0, cells := 0, slots := 0, locals := 0 }) M [.ref a0, .int a1, .int a2, .int a3, .int a4, .int a5] (kI K) kN := by
  refine gm_of hl (ret := (some Jvm.ClassFile.FieldType.int)) rfl (Nat.le_of_ble_eq_true rfl) (fun X h hq => ?_)
  have h : hX l G X cX10_feed 7 "GlacierMailModel" 0 0 := h
  have hf := hf
  show V l G X 0 0 M 0 [(0, .ref a0), (1, .int a1), (2, .int a2), (3, .int a3), (4, .int a4), (5, .int a5)] []
  have hf := hf
    (fun v0 v6 M => V l G X 0 0 M 60 [(0, .ref v0), (6, .int v6)] [])
    (by
      intro v0 v6 M hf
      show V l G X 0 0 M 60 [(0, .ref v0), (6, .int v6)] []
      refine r_iload h 1 dX10_feed_60 rfl ?_
      refine r_bipush (v := 20) h dX10_feed_62 (by decide) ?_
      refine r_icmp_ge (tgt := 106) h dX10_feed_64 (by decide) (fun c29 => ?_) (fun c29 => ?_)
      · have hf := ite_t c29 hf
        refine r_aload_n h 0 dX10_feed_106 rfl rfl ?_
        refine r_dup h dX10_feed_107 rfl ?_
        obtain ⟨k30, hf⟩ := hf
        refine g1605 h dX10_feed_108 k30 ?_
        refine r_bipush (v := 20) h dX10_feed_111 (by decide) ?_
        refine r_iadd h dX10_feed_113 ?_
        refine p1605 h dX10_feed_114 k30 ?_
        refine r_goW (fun M31 eM31 => ?_)
        have hf := hf M31 eM31
        refine r_aload_n h 0 dX10_feed_117 rfl rfl ?_
        obtain ⟨k32, hf⟩ := hf
        refine g1605 h dX10_feed_118 k32 ?_
        exact r_ireturn h hq dX10_feed_121 ⟨_, rfl, hf⟩
      · have hf := ite_f c29 hf
        refine r_aload_n h 0 dX10_feed_67 rfl rfl ?_
        obtain ⟨k33, hf⟩ := hf
        obtain ⟨b34, e35, hf⟩ := hf
        refine g1604 h dX10_feed_68 k33 e35 ?_
        refine r_aload_n h 0 dX10_feed_71 rfl rfl ?_
        refine g1605 h dX10_feed_72 k33 ?_
        refine r_iload h 1 dX10_feed_75 rfl ?_
        refine r_iadd h dX10_feed_77 ?_
        refine r_aload_n h 0 dX10_feed_78 rfl rfl ?_
        obtain ⟨b36, e37, hf⟩ := hf
        refine g1611 h dX10_feed_79 k33 e37 ?_
        refine r_iload h 1 dX10_feed_82 rfl ?_
        refine r_iconst (v := 4) h dX10_feed_84 (by decide) ?_
        refine r_idiv h dX10_feed_85 (by decide) ?_
        obtain ⟨j38, hf⟩ := hf
        refine r_iaload h dX10_feed_86 j38 ?_
        refine r_bipush (v := 24) h dX10_feed_87 (by decide) ?_
        refine r_bipush (v := 8) h dX10_feed_89 (by decide) ?_
        refine r_iload h 1 dX10_feed_91 rfl ?_
        refine r_iconst (v := 4) h dX10_feed_93 (by decide) ?_
        refine r_irem h dX10_feed_94 (by decide) ?_
        refine r_imul h dX10_feed_95 ?_
        refine r_isub h dX10_feed_96 ?_
        refine r_ishr h dX10_feed_97 ?_
        refine r_i2b h dX10_feed_98 ?_
        obtain ⟨j39, hf⟩ := hf
        refine r_bastore h dX10_feed_99 j39 ?_
        refine r_goW (fun M40 eM40 => ?_)
        have hf := hf M40 eM40
        refine r_iinc (v := v6 + 1) (lv' := [(6, .int (v6 + 1)), (0, .ref v0)]) h 1 dX10_feed_100 rfl rfl (by decide) rfl ?_
        refine r_goto (tgt := 60) h dX10_feed_103 (by decide) ?_
        exact V.sub [1, 0] rfl hf)
  refine r_aload_n h 0 dX10_feed_0 rfl rfl ?_
  refine r_iconst (v := 0) h dX10_feed_1 (by decide) ?_
  obtain ⟨k1, hf⟩ := hf
  refine p1597 h dX10_feed_2 k1 ?_
  refine r_goW (fun M2 eM2 => ?_)
  have hf := hf M2 eM2
  refine r_aload_n h 0 dX10_feed_5 rfl rfl ?_
  obtain ⟨k3, hf⟩ := hf
  refine g1605 h dX10_feed_6 k3 ?_
  refine r_bipush (v := 20) h dX10_feed_9 (by decide) ?_
  refine r_iadd h dX10_feed_11 ?_
  refine r_sipush (v := 400) h dX10_feed_12 (by decide) ?_
  refine r_icmp_le (tgt := 20) h dX10_feed_15 (by decide) (fun c4 => ?_) (fun c4 => ?_)
  · have hf := ite_t c4 hf
    refine r_aload_n h 0 dX10_feed_20 rfl rfl ?_
    obtain ⟨b5, e6, hf⟩ := hf
    refine g1611 h dX10_feed_21 k3 e6 ?_
    refine r_iconst (v := 0) h dX10_feed_24 (by decide) ?_
    refine r_iload_n h 1 dX10_feed_25 rfl rfl ?_
    obtain ⟨j7, hf⟩ := hf
    refine r_iastore h dX10_feed_26 j7 ?_
    refine r_goW (fun M8 eM8 => ?_)
    have hf := hf M8 eM8
    refine r_aload_n h 0 dX10_feed_27 rfl rfl ?_
    obtain ⟨k9, hf⟩ := hf
    obtain ⟨b10, e11, hf⟩ := hf
    refine g1611 h dX10_feed_28 k9 e11 ?_
    refine r_iconst (v := 1) h dX10_feed_31 (by decide) ?_
    refine r_iload_n h 2 dX10_feed_32 rfl rfl ?_
    obtain ⟨j12, hf⟩ := hf
    refine r_iastore h dX10_feed_33 j12 ?_
    refine r_goW (fun M13 eM13 => ?_)
    have hf := hf M13 eM13
    refine r_aload_n h 0 dX10_feed_34 rfl rfl ?_
    obtain ⟨k14, hf⟩ := hf
    obtain ⟨b15, e16, hf⟩ := hf
    refine g1611 h dX10_feed_35 k14 e16 ?_
    refine r_iconst (v := 2) h dX10_feed_38 (by decide) ?_
    refine r_iload_n h 3 dX10_feed_39 rfl rfl ?_
    obtain ⟨j17, hf⟩ := hf
    refine r_iastore h dX10_feed_40 j17 ?_
    refine r_goW (fun M18 eM18 => ?_)
    have hf := hf M18 eM18
    refine r_aload_n h 0 dX10_feed_41 rfl rfl ?_
    obtain ⟨k19, hf⟩ := hf
    obtain ⟨b20, e21, hf⟩ := hf
    refine g1611 h dX10_feed_42 k19 e21 ?_
    refine r_iconst (v := 3) h dX10_feed_45 (by decide) ?_
    refine r_iload h 4 dX10_feed_46 rfl ?_
    obtain ⟨j22, hf⟩ := hf
    refine r_iastore h dX10_feed_48 j22 ?_
    refine r_goW (fun M23 eM23 => ?_)
    have hf := hf M23 eM23
    refine r_aload_n h 0 dX10_feed_49 rfl rfl ?_
    obtain ⟨k24, hf⟩ := hf
    obtain ⟨b25, e26, hf⟩ := hf
    refine g1611 h dX10_feed_50 k24 e26 ?_
    refine r_iconst (v := 4) h dX10_feed_53 (by decide) ?_
    refine r_iload h 5 dX10_feed_54 rfl ?_
    obtain ⟨j27, hf⟩ := hf
    refine r_iastore h dX10_feed_56 j27 ?_
    refine r_goW (fun M28 eM28 => ?_)
    have hf := hf M28 eM28
    refine r_iconst (v := 0) h dX10_feed_57 (by decide) ?_
    refine r_istore (lv' := [(6, .int 0), (0, .ref a0), (1, .int a1), (2, .int a2), (3, .int a3), (4, .int a4), (5, .int a5)]) h dX10_feed_58 (by decide) rfl ?_
    exact V.sub [1, 0] rfl hf
  · have hf := ite_f c4 hf
    refine r_iconst (v := (-1)) h dX10_feed_18 (by decide) ?_
    exact r_ireturn h hq dX10_feed_19 ⟨_, rfl, hf⟩
theorem c1727 {l : Launch} {G : gG} {X : gX} {cc : ByteArray} {nL F L bc bs pc : Nat} {M : gM} {lv : List (Nat × Value)} {rest : List Value} {a0 : Nat} {a1 : Int32} {a2 : Int32} {a3 : Int32} {a4 : Int32} {a5 : Int32} {K : Int32 → gM → Prop} (hl : l.stackTraces = false) (h : hX l G X cc nL "GlacierMailLaw" F L) (d : decode cc pc = .ok (.invokevirtual 143, 3)) (hk : kd M a0 = some (.inl 10)) (hf : f_X10_feed a0 a1 a2 a3 a4 a5 M K) (hst : (rest.map fun v => v.category).sum ≤ 8) (hF : 1 ≤ F) (hL : 26 ≤ L) (kk : ∀ x M1, K x M1 → V l G X bc bs M1 (pc + 3) lv (.int x :: rest)) : V l G X bc bs M pc lv (.int a5 :: .int a4 :: .int a3 :: .int a2 :: .int a1 :: .ref a0 :: rest) := r_callV (n := 5) (As := [.int a1, .int a2, .int a3, .int a4, .int a5]) h (m_X10_feed hl hf) 10 rfl hk rfl ⟨by decide, by decide, by decide +kernel⟩ d q1727 q1728 q1729 q147 q1730 rfl rfl hst hF hL (Nat.zero_le _) (Nat.zero_le _) (kI_go kk) kN_go
def f_X10_end (a0 : Nat) (a1 : Int32) (M : gM) (K : Int32 → gM → Prop) : Prop :=
  kd M a0 = some (.inl 10) ∧ ∀ M2, M2 = sI M a0 0 0 → if a1 < 0 then K 0 M2 else kd M2 a0 = some (.inl 10) ∧ if a1 ≤ (iv M2 a0 8) then ∀ M6, M6 = sI M2 a0 8 a1 → K 1 M6 else K 0 M2
set_option maxHeartbeats 4000000 in
theorem m_X10_end {l : Launch} (hl : l.stackTraces = false) {G : gG} {a0 : Nat} {a1 : Int32} {M : gM} {K : Int32 → gM → Prop} (hf : f_X10_end a0 a1 M K) : gMet l G yX10_end (ws_ yX10_end cX10_end 2 (some Jvm.ClassFile.FieldType.boolean)) ({ frames := 0, cells := 0, slots := 0, locals := 0 }) M [.ref a0, .int a1] (kI K) kN := by
  refine gm_of hl (ret := (some Jvm.ClassFile.FieldType.boolean)) rfl (Nat.le_of_ble_eq_true rfl) (fun X h hq => ?_)
  have h : hX l G X cX10_end 2 "GlacierMailModel" 0 0 := h
  have hf := hf
  show V l G X 0 0 M 0 [(0, .ref a0), (1, .int a1)] []
  unfold f_X10_end at hf
  refine r_aload_n h 0 dX10_end_0 rfl rfl ?_
  refine r_iconst (v := 0) h dX10_end_1 (by decide) ?_
  obtain ⟨k1, hf⟩ := hf
  refine p1597 h dX10_end_2 k1 ?_
  refine r_goW (fun M2 eM2 => ?_)
  have hf := hf M2 eM2
  refine r_iload_n h 1 dX10_end_5 rfl rfl ?_
  refine r_if_lt (tgt := 17) h dX10_end_6 (by decide) (fun c3 => ?_) (fun c3 => ?_)
  · have hf := ite_t c3 hf
    refine r_iconst (v := 0) h dX10_end_17 (by decide) ?_
    exact r_zreturn h hq dX10_end_18 (by decide) ⟨_, rfl, hf⟩
  · have hf := ite_f c3 hf
    refine r_iload_n h 1 dX10_end_9 rfl rfl ?_
    refine r_aload_n h 0 dX10_end_10 rfl rfl ?_
    obtain ⟨k4, hf⟩ := hf
    refine g1605 h dX10_end_11 k4 ?_
    refine r_icmp_le (tgt := 19) h dX10_end_14 (by decide) (fun c5 => ?_) (fun c5 => ?_)
    · have hf := ite_t c5 hf
      refine r_aload_n h 0 dX10_end_19 rfl rfl ?_
      refine r_iload_n h 1 dX10_end_20 rfl rfl ?_
      refine p1605 h dX10_end_21 k4 ?_
      refine r_goW (fun M6 eM6 => ?_)
      have hf := hf M6 eM6
      refine r_iconst (v := 1) h dX10_end_24 (by decide) ?_
      exact r_zreturn h hq dX10_end_25 (by decide) ⟨_, rfl, hf⟩
    · have hf := ite_f c5 hf
      refine r_iconst (v := 0) h dX10_end_17 (by decide) ?_
      exact r_zreturn h hq dX10_end_18 (by decide) ⟨_, rfl, hf⟩
theorem c1731 {l : Launch} {G : gG} {X : gX} {cc : ByteArray} {nL F L bc bs pc : Nat} {M : gM} {lv : List (Nat × Value)} {rest : List Value} {a0 : Nat} {a1 : Int32} {K : Int32 → gM → Prop} (hl : l.stackTraces = false) (h : hX l G X cc nL "GlacierMailLaw" F L) (d : decode cc pc = .ok (.invokevirtual 148, 3)) (hk : kd M a0 = some (.inl 10)) (hf : f_X10_end a0 a1 M K) (hst : (rest.map fun v => v.category).sum ≤ 8) (hF : 1 ≤ F) (hL : 21 ≤ L) (kk : ∀ x M1, K x M1 → V l G X bc bs M1 (pc + 3) lv (.int x :: rest)) : V l G X bc bs M pc lv (.int a1 :: .ref a0 :: rest) := r_callV (n := 1) (As := [.int a1]) h (m_X10_end hl hf) 10 rfl hk rfl ⟨by decide, by decide, by decide +kernel⟩ d q1731 q1732 q1733 q147 q1734 rfl rfl hst hF hL (Nat.zero_le _) (Nat.zero_le _) (kI_go kk) kN_go
