def f_J14_bitCount (a0 : Int32) (M : gM) (K : Int32 → gM → Prop) : Prop :=
  ∀ x1, x1 = a0 - (((a0.toUInt32 >>> ((1 : Int32).toUInt32 &&& Int32.toUInt32 31)).toInt32) &&& 1431655765) → ∀ x2, x2 = (x1 &&& 858993459) + (((x1.toUInt32 >>> ((2 : Int32).toUInt32 &&& Int32.toUInt32 31)).toInt32) &&& 858993459) → ∀ x3, x3 = (x2 + ((x2.toUInt32 >>> ((4 : Int32).toUInt32 &&& Int32.toUInt32 31)).toInt32)) &&& 252645135 → ∀ x4, x4 = x3 + ((x3.toUInt32 >>> ((8 : Int32).toUInt32 &&& Int32.toUInt32 31)).toInt32) → ∀ x5, x5 = x4 + ((x4.toUInt32 >>> ((16 : Int32).toUInt32 &&& Int32.toUInt32 31)).toInt32) → K (x5 &&& 63) M
set_option maxHeartbeats 4000000 in
theorem m_J14_bitCount {l : Launch} (hl : l.stackTraces = false) {G : gG} {a0 : Int32} {M : gM} {K : Int32 → gM → Prop} (hf : f_J14_bitCount a0 M K) : gMet l G yJ14_bitCount (ws_ yJ14_bitCount cJ14_bitCount 1 (some Jvm.ClassFile.FieldType.int)) ({ frames := 0, cells := 0, slots := 0, locals := 0 }) M [.int a0] (kI K) kN := by
  refine gm_of hl (ret := (some Jvm.ClassFile.FieldType.int)) rfl (Nat.le_of_ble_eq_true rfl) (fun X h hq => ?_)
  have h : hX l G X cJ14_bitCount 1 "java/lang/Integer" 0 0 := h
  have hf := hf
  show V l G X 0 0 M 0 [(0, .int a0)] []
  unfold f_J14_bitCount at hf
  refine r_iload_n h 0 dJ14_bitCount_0 rfl rfl ?_
  refine r_iload_n h 0 dJ14_bitCount_1 rfl rfl ?_
  refine r_iconst (v := 1) h dJ14_bitCount_2 (by decide) ?_
  refine r_iushr h dJ14_bitCount_3 ?_
  refine r_ldcw (v := 1431655765) h dJ14_bitCount_4 q756 ?_
  refine r_iand h dJ14_bitCount_7 ?_
  refine r_isub h dJ14_bitCount_8 ?_
  refine r_nam (fun x1 ex1 => ?_)
  have hf := hf x1 ex1
  refine r_istore_n (lv' := [(0, .int x1)]) h dJ14_bitCount_9 rfl (by decide) rfl ?_
  refine r_iload_n h 0 dJ14_bitCount_10 rfl rfl ?_
  refine r_ldcw (v := 858993459) h dJ14_bitCount_11 q757 ?_
  refine r_iand h dJ14_bitCount_14 ?_
  refine r_iload_n h 0 dJ14_bitCount_15 rfl rfl ?_
  refine r_iconst (v := 2) h dJ14_bitCount_16 (by decide) ?_
  refine r_iushr h dJ14_bitCount_17 ?_
  refine r_ldcw (v := 858993459) h dJ14_bitCount_18 q757 ?_
  refine r_iand h dJ14_bitCount_21 ?_
  refine r_iadd h dJ14_bitCount_22 ?_
  refine r_nam (fun x2 ex2 => ?_)
  have hf := hf x2 ex2
  refine r_istore_n (lv' := [(0, .int x2)]) h dJ14_bitCount_23 rfl (by decide) rfl ?_
  refine r_iload_n h 0 dJ14_bitCount_24 rfl rfl ?_
  refine r_iload_n h 0 dJ14_bitCount_25 rfl rfl ?_
  refine r_iconst (v := 4) h dJ14_bitCount_26 (by decide) ?_
  refine r_iushr h dJ14_bitCount_27 ?_
  refine r_iadd h dJ14_bitCount_28 ?_
  refine r_ldcw (v := 252645135) h dJ14_bitCount_29 q758 ?_
  refine r_iand h dJ14_bitCount_32 ?_
  refine r_nam (fun x3 ex3 => ?_)
  have hf := hf x3 ex3
  refine r_istore_n (lv' := [(0, .int x3)]) h dJ14_bitCount_33 rfl (by decide) rfl ?_
  refine r_iload_n h 0 dJ14_bitCount_34 rfl rfl ?_
  refine r_iload_n h 0 dJ14_bitCount_35 rfl rfl ?_
  refine r_bipush (v := 8) h dJ14_bitCount_36 (by decide) ?_
  refine r_iushr h dJ14_bitCount_38 ?_
  refine r_iadd h dJ14_bitCount_39 ?_
  refine r_nam (fun x4 ex4 => ?_)
  have hf := hf x4 ex4
  refine r_istore_n (lv' := [(0, .int x4)]) h dJ14_bitCount_40 rfl (by decide) rfl ?_
  refine r_iload_n h 0 dJ14_bitCount_41 rfl rfl ?_
  refine r_iload_n h 0 dJ14_bitCount_42 rfl rfl ?_
  refine r_bipush (v := 16) h dJ14_bitCount_43 (by decide) ?_
  refine r_iushr h dJ14_bitCount_45 ?_
  refine r_iadd h dJ14_bitCount_46 ?_
  refine r_nam (fun x5 ex5 => ?_)
  have hf := hf x5 ex5
  refine r_istore_n (lv' := [(0, .int x5)]) h dJ14_bitCount_47 rfl (by decide) rfl ?_
  refine r_iload_n h 0 dJ14_bitCount_48 rfl rfl ?_
  refine r_bipush (v := 63) h dJ14_bitCount_49 (by decide) ?_
  refine r_iand h dJ14_bitCount_51 ?_
  exact r_ireturn h hq dJ14_bitCount_52 ⟨_, rfl, hf⟩
theorem c753 {l : Launch} {G : gG} {X : gX} {cc : ByteArray} {nL F L bc bs pc : Nat} {M : gM} {lv : List (Nat × Value)} {rest : List Value} {a0 : Int32} {K : Int32 → gM → Prop} (hl : l.stackTraces = false) (h : hX l G X cc nL "GlacierMail" F L) (d : decode cc pc = .ok (.invokestatic 373, 3)) (hf : f_J14_bitCount a0 M K) (hst : (rest.map fun v => v.category).sum ≤ 8) (hF : 1 ≤ F) (hL : 20 ≤ L) (kk : ∀ x M1, K x M1 → V l G X bc bs M1 (pc + 3) lv (.int x :: rest)) : V l G X bc bs M pc lv (.int a0 :: rest) := r_callS (n := 1) (As := [.int a0]) h (m_J14_bitCount hl hf) ⟨by decide, by decide, by decide +kernel⟩ d q753 q754 q168 q755 rfl rfl hst hF hL (Nat.zero_le _) (Nat.zero_le _) (kI_go kk) kN_go
theorem c2192 {l : Launch} {G : gG} {X : gX} {cc : ByteArray} {nL F L bc bs pc : Nat} {M : gM} {lv : List (Nat × Value)} {rest : List Value} {a0 : Int32} {K : Int32 → gM → Prop} (hl : l.stackTraces = false) (h : hX l G X cc nL "GlacierMailModel" F L) (d : decode cc pc = .ok (.invokestatic 460, 3)) (hf : f_J14_bitCount a0 M K) (hst : (rest.map fun v => v.category).sum ≤ 8) (hF : 1 ≤ F) (hL : 20 ≤ L) (kk : ∀ x M1, K x M1 → V l G X bc bs M1 (pc + 3) lv (.int x :: rest)) : V l G X bc bs M pc lv (.int a0 :: rest) := r_callS (n := 1) (As := [.int a0]) h (m_J14_bitCount hl hf) ⟨by decide, by decide, by decide +kernel⟩ d q2192 q754 q168 q755 rfl rfl hst hF hL (Nat.zero_le _) (Nat.zero_le _) (kI_go kk) kN_go
def f_J0_init_2 (a0 : Nat) (a1 : Option Nat) (a2 : Option Nat) (a3 : Int32) (a4 : Int32) (M : gM) (K : gM → Prop) : Prop :=
  ∀ P41 : Nat → Option Nat → Option Nat → Int32 → gM → Prop,
  (∀ (v0 : Nat) (v1 : Option Nat) (v2 : Option Nat) (v3 : Int32) (M : gM), (kd M v0 = some (.inl 8) ∧ ∀ M13, M13 = sR M v0 3 v1 → kd M13 v0 = some (.inl 8) ∧ ∀ M15, M15 = sR M13 v0 0 v2 → if v3 = 0 then kd M15 v0 = some (.inl 8) ∧ ∀ M18, M18 = sR M15 v0 2 none → K M18 else K M15) → P41 v0 v1 v2 v3 M) →
  kd M a0 = some (.inl 8) ∧ ∀ M2, M2 = sR M a0 0 (some a0) → ∀ o3 : Option Nat, kd M2 a0 = some (.inl 8) ∧ ∀ M5, M5 = sR M2 a0 1 o3 → ∀ o6 : Option Nat, kd M5 a0 = some (.inl 8) ∧ ∀ M8, M8 = sR M5 a0 2 o6 → if a4 = 0 then kd M8 a0 = some (.inl 8) ∧ ∀ M11, M11 = sR M8 a0 1 none → P41 a0 a1 a2 a3 M11 else False
set_option maxHeartbeats 4000000 in
theorem m_J0_init_2 {l : Launch} (hl : l.stackTraces = false) {G : gG} {a0 : Nat} {a1 : Option Nat} {a2 : Option Nat} {a3 : Int32} {a4 : Int32} {M : gM} {K : gM → Prop} (hf : f_J0_init_2 a0 a1 a2 a3 a4 M K) : gMet l G yJ0_init_2 (ws_ yJ0_init_2 cJ0_init_2 5 none) ({ frames := 1, cells := 0, slots := 0, locals := 20 }) M [.ref a0, va_rf a1, va_rf a2, .int a3, .int a4] (kV K) kN := by
  refine gm_of hl (ret := none) rfl (by cases a1 <;> cases a2 <;> exact Nat.le_of_ble_eq_true rfl) (fun X h hq => ?_)
  have h : hX l G X cJ0_init_2 5 "java/lang/Throwable" 1 20 := h
  have hf := hf
  rw [show lv_args 0 [.ref a0, va_rf a1, va_rf a2, .int a3, .int a4] = [(0, .ref a0), (1, va_rf a1), (2, va_rf a2), (3, .int a3), (4, .int a4)] from by cases a1 <;> cases a2 <;> rfl]
  show V l G X 0 0 M 0 [(0, .ref a0), (1, va_rf a1), (2, va_rf a2), (3, .int a3), (4, .int a4)] []
  have hf := hf
    (fun v0 v1 v2 v3 M => V l G X 0 0 M 41 [(0, .ref v0), (1, va_rf v1), (2, va_rf v2), (3, .int v3)] [])
    (by
      intro v0 v1 v2 v3 M hf
      show V l G X 0 0 M 41 [(0, .ref v0), (1, va_rf v1), (2, va_rf v2), (3, .int v3)] []
      refine r_aload_n h 0 dJ0_init_2_41 rfl rfl ?_
      refine r_aload_nO h 1 dJ0_init_2_42 rfl rfl ?_
      obtain ⟨k12, hf⟩ := hf
      refine p493 (b := v1) h dJ0_init_2_43 k12 ?_
      refine r_goW (fun M13 eM13 => ?_)
      have hf := hf M13 eM13
      refine r_aload_n h 0 dJ0_init_2_46 rfl rfl ?_
      refine r_aload_nO h 2 dJ0_init_2_47 rfl rfl ?_
      obtain ⟨k14, hf⟩ := hf
      refine p494 (b := v2) h dJ0_init_2_48 k14 ?_
      refine r_goW (fun M15 eM15 => ?_)
      have hf := hf M15 eM15
      refine r_iload_n h 3 dJ0_init_2_51 rfl rfl ?_
      refine r_if_ne (tgt := 60) h dJ0_init_2_52 (by decide) (fun c16 => ?_) (fun c16 => ?_)
      · have hf := ite_f c16 hf
        exact r_return h hq dJ0_init_2_60 ⟨rfl, hf⟩
      · have hf := ite_t c16 hf
        refine r_aload_n h 0 dJ0_init_2_55 rfl rfl ?_
        refine r_aconst_null h dJ0_init_2_56 ?_
        obtain ⟨k17, hf⟩ := hf
        refine V.eqs (st' := va_rf none :: _) rfl ?_
        refine p496 (b := none) h dJ0_init_2_57 k17 ?_
        refine r_goW (fun M18 eM18 => ?_)
        have hf := hf M18 eM18
        exact r_return h hq dJ0_init_2_60 ⟨rfl, hf⟩)
  refine r_aload_n h 0 dJ0_init_2_0 rfl rfl ?_
  refine r_objinit h q458 q175 q176 dJ0_init_2_1 (by decide) (by decide) (Nat.le_of_ble_eq_true rfl) ?_
  refine r_aload_n h 0 dJ0_init_2_4 rfl rfl ?_
  refine r_aload_n h 0 dJ0_init_2_5 rfl rfl ?_
  obtain ⟨k1, hf⟩ := hf
  refine V.eqs (st' := va_rf (some a0) :: _) rfl ?_
  refine p494 (b := (some a0)) h dJ0_init_2_6 k1 ?_
  refine r_goW (fun M2 eM2 => ?_)
  have hf := hf M2 eM2
  refine r_aload_n h 0 dJ0_init_2_9 rfl rfl ?_
  refine r_getsU h q459 dJ0_init_2_10 (fun o3 => ?_)
  have hf := hf o3
  obtain ⟨k4, hf⟩ := hf
  refine p495 (b := o3) h dJ0_init_2_13 k4 ?_
  refine r_goW (fun M5 eM5 => ?_)
  have hf := hf M5 eM5
  refine r_aload_n h 0 dJ0_init_2_16 rfl rfl ?_
  refine r_getsN h q461 dJ0_init_2_17 (fun o6 => ?_)
  have hf := hf o6
  obtain ⟨k7, hf⟩ := hf
  refine p496 (b := o6) h dJ0_init_2_20 k7 ?_
  refine r_goW (fun M8 eM8 => ?_)
  have hf := hf M8 eM8
  refine r_iload h 4 dJ0_init_2_23 rfl ?_
  refine r_if_eq (tgt := 36) h dJ0_init_2_25 (by decide) (fun c9 => ?_) (fun c9 => ?_)
  · have hf := ite_t c9 hf
    refine r_aload_n h 0 dJ0_init_2_36 rfl rfl ?_
    refine r_aconst_null h dJ0_init_2_37 ?_
    obtain ⟨k10, hf⟩ := hf
    refine V.eqs (st' := va_rf none :: _) rfl ?_
    refine p495 (b := none) h dJ0_init_2_38 k10 ?_
    refine r_goW (fun M11 eM11 => ?_)
    have hf := hf M11 eM11
    exact V.sub [0, 1, 2, 3] rfl hf
  · have hf := ite_f c9 hf
    refine r_aload_n h 0 dJ0_init_2_28 rfl rfl ?_
    exact hf.elim
theorem c487 {l : Launch} {G : gG} {X : gX} {cc : ByteArray} {nL F L bc bs pc : Nat} {M : gM} {lv : List (Nat × Value)} {rest : List Value} {a0 : Nat} {a1 : Option Nat} {a2 : Option Nat} {a3 : Int32} {a4 : Int32} {K : gM → Prop} (hl : l.stackTraces = false) (h : hX l G X cc nL "java/lang/Exception" F L) (d : decode cc pc = .ok (.invokespecial 16, 3)) (hf : f_J0_init_2 a0 a1 a2 a3 a4 M K) (hst : (rest.map fun v => v.category).sum ≤ 8) (hF : 2 ≤ F) (hL : 44 ≤ L) (kk : ∀ M1, K M1 → V l G X bc bs M1 (pc + 3) lv rest) : V l G X bc bs M pc lv (.int a4 :: .int a3 :: va_rf a2 :: va_rf a1 :: .ref a0 :: rest) := r_callI (n := 4) (As := [va_rf a1, va_rf a2, .int a3, .int a4]) h (m_J0_init_2 hl hf) ⟨by decide, by decide, by decide +kernel⟩ rfl d q487 q488 q142 q489 rfl rfl hst hF hL (Nat.zero_le _) (Nat.zero_le _) (kV_go kk) kN_go
def f_J1_init (a0 : Nat) (a1 : Option Nat) (a2 : Option Nat) (a3 : Int32) (a4 : Int32) (M : gM) (K : gM → Prop) : Prop :=
  f_J0_init_2 a0 a1 a2 a3 a4 M (fun M1 => K M1)
set_option maxHeartbeats 4000000 in
theorem m_J1_init {l : Launch} (hl : l.stackTraces = false) {G : gG} {a0 : Nat} {a1 : Option Nat} {a2 : Option Nat} {a3 : Int32} {a4 : Int32} {M : gM} {K : gM → Prop} (hf : f_J1_init a0 a1 a2 a3 a4 M K) : gMet l G yJ1_init (ws_ yJ1_init cJ1_init 5 none) ({ frames := 2, cells := 0, slots := 0, locals := 44 }) M [.ref a0, va_rf a1, va_rf a2, .int a3, .int a4] (kV K) kN := by
  refine gm_of hl (ret := none) rfl (by cases a1 <;> cases a2 <;> exact Nat.le_of_ble_eq_true rfl) (fun X h hq => ?_)
  have h : hX l G X cJ1_init 5 "java/lang/Exception" 2 44 := h
  have hf := hf
  rw [show lv_args 0 [.ref a0, va_rf a1, va_rf a2, .int a3, .int a4] = [(0, .ref a0), (1, va_rf a1), (2, va_rf a2), (3, .int a3), (4, .int a4)] from by cases a1 <;> cases a2 <;> rfl]
  show V l G X 0 0 M 0 [(0, .ref a0), (1, va_rf a1), (2, va_rf a2), (3, .int a3), (4, .int a4)] []
  unfold f_J1_init at hf
  refine r_aload_n h 0 dJ1_init_0 rfl rfl ?_
  refine r_aload_nO h 1 dJ1_init_1 rfl rfl ?_
  refine r_aload_nO h 2 dJ1_init_2 rfl rfl ?_
  refine r_iload_n h 3 dJ1_init_3 rfl rfl ?_
  refine r_iload h 4 dJ1_init_4 rfl ?_
  refine c487 hl h dJ1_init_6 hf (Nat.le_of_ble_eq_true rfl) (by decide) (by decide) (fun M1 hf => ?_)
  exact r_return h hq dJ1_init_9 ⟨rfl, hf⟩
theorem c484 {l : Launch} {G : gG} {X : gX} {cc : ByteArray} {nL F L bc bs pc : Nat} {M : gM} {lv : List (Nat × Value)} {rest : List Value} {a0 : Nat} {a1 : Option Nat} {a2 : Option Nat} {a3 : Int32} {a4 : Int32} {K : gM → Prop} (hl : l.stackTraces = false) (h : hX l G X cc nL "java/lang/RuntimeException" F L) (d : decode cc pc = .ok (.invokespecial 16, 3)) (hf : f_J1_init a0 a1 a2 a3 a4 M K) (hst : (rest.map fun v => v.category).sum ≤ 8) (hF : 3 ≤ F) (hL : 68 ≤ L) (kk : ∀ M1, K M1 → V l G X bc bs M1 (pc + 3) lv rest) : V l G X bc bs M pc lv (.int a4 :: .int a3 :: va_rf a2 :: va_rf a1 :: .ref a0 :: rest) := r_callI (n := 4) (As := [va_rf a1, va_rf a2, .int a3, .int a4]) h (m_J1_init hl hf) ⟨by decide, by decide, by decide +kernel⟩ rfl d q484 q485 q143 q486 rfl rfl hst hF hL (Nat.zero_le _) (Nat.zero_le _) (kV_go kk) kN_go
def f_J2_init (a0 : Nat) (a1 : Option Nat) (a2 : Option Nat) (a3 : Int32) (a4 : Int32) (M : gM) (K : gM → Prop) : Prop :=
  f_J1_init a0 a1 a2 a3 a4 M (fun M1 => K M1)
set_option maxHeartbeats 4000000 in
theorem m_J2_init {l : Launch} (hl : l.stackTraces = false) {G : gG} {a0 : Nat} {a1 : Option Nat} {a2 : Option Nat} {a3 : Int32} {a4 : Int32} {M : gM} {K : gM → Prop} (hf : f_J2_init a0 a1 a2 a3 a4 M K) : gMet l G yJ2_init (ws_ yJ2_init cJ2_init 5 none) ({ frames := 3, cells := 0, slots := 0, locals := 68 }) M [.ref a0, va_rf a1, va_rf a2, .int a3, .int a4] (kV K) kN := by
  refine gm_of hl (ret := none) rfl (by cases a1 <;> cases a2 <;> exact Nat.le_of_ble_eq_true rfl) (fun X h hq => ?_)
  have h : hX l G X cJ2_init 5 "java/lang/RuntimeException" 3 68 := h
  have hf := hf
  rw [show lv_args 0 [.ref a0, va_rf a1, va_rf a2, .int a3, .int a4] = [(0, .ref a0), (1, va_rf a1), (2, va_rf a2), (3, .int a3), (4, .int a4)] from by cases a1 <;> cases a2 <;> rfl]
  show V l G X 0 0 M 0 [(0, .ref a0), (1, va_rf a1), (2, va_rf a2), (3, .int a3), (4, .int a4)] []
  unfold f_J2_init at hf
  refine r_aload_n h 0 dJ2_init_0 rfl rfl ?_
  refine r_aload_nO h 1 dJ2_init_1 rfl rfl ?_
  refine r_aload_nO h 2 dJ2_init_2 rfl rfl ?_
  refine r_iload_n h 3 dJ2_init_3 rfl rfl ?_
  refine r_iload h 4 dJ2_init_4 rfl ?_
  refine c484 hl h dJ2_init_6 hf (Nat.le_of_ble_eq_true rfl) (by decide) (by decide) (fun M1 hf => ?_)
  exact r_return h hq dJ2_init_9 ⟨rfl, hf⟩
theorem c481 {l : Launch} {G : gG} {X : gX} {cc : ByteArray} {nL F L bc bs pc : Nat} {M : gM} {lv : List (Nat × Value)} {rest : List Value} {a0 : Nat} {a1 : Option Nat} {a2 : Option Nat} {a3 : Int32} {a4 : Int32} {K : gM → Prop} (hl : l.stackTraces = false) (h : hX l G X cc nL "GlacierMail$Wrong" F L) (d : decode cc pc = .ok (.invokespecial 1, 3)) (hf : f_J2_init a0 a1 a2 a3 a4 M K) (hst : (rest.map fun v => v.category).sum ≤ 8) (hF : 4 ≤ F) (hL : 92 ≤ L) (kk : ∀ M1, K M1 → V l G X bc bs M1 (pc + 3) lv rest) : V l G X bc bs M pc lv (.int a4 :: .int a3 :: va_rf a2 :: va_rf a1 :: .ref a0 :: rest) := r_callI (n := 4) (As := [va_rf a1, va_rf a2, .int a3, .int a4]) h (m_J2_init hl hf) ⟨by decide, by decide, by decide +kernel⟩ rfl d q481 q482 q144 q483 rfl rfl hst hF hL (Nat.zero_le _) (Nat.zero_le _) (kV_go kk) kN_go
def f_X13_init (a0 : Nat) (M : gM) (K : gM → Prop) : Prop :=
  ∀ M1, M1 = sN M (.inr (0, 8)) → kd M1 a0 = some (.inl 13) ∧ ∀ M3, M3 = sR M1 a0 0 (some (sz M)) → K M3
set_option maxHeartbeats 4000000 in
theorem m_X13_init {l : Launch} (hl : l.stackTraces = false) {G : gG} {a0 : Nat} {M : gM} {K : gM → Prop} (hf : f_X13_init a0 M K) : gMet l G yX13_init (ws_ yX13_init cX13_init 1 none) ({ frames := 1, cells := 1, slots := 8, locals := 20 }) M [.ref a0] (kV K) kN := by
  refine gm_of hl (ret := none) rfl (Nat.le_of_ble_eq_true rfl) (fun X h hq => ?_)
  have h : hX l G X cX13_init 1 "GlacierMail$Sum" 1 20 := h
  have hf := hf
  show V l G X 1 8 M 0 [(0, .ref a0)] []
  unfold f_X13_init at hf
  refine r_aload_n h 0 dX13_init_0 rfl rfl ?_
  refine r_objinit h q1054 q175 q176 dX13_init_1 (by decide) (by decide) (Nat.le_of_ble_eq_true rfl) ?_
  refine r_aload_n h 0 dX13_init_4 rfl rfl ?_
  refine r_bipush (v := 8) h dX13_init_5 (by decide) ?_
  refine r_newarray h 0 (by decide) rfl q230 (N := 8) dX13_init_7 (by decide) (by decide) (by decide) (by decide) (by decide) ?_
  refine r_goW (fun M1 eM1 => ?_)
  have hf := hf M1 eM1
  obtain ⟨k2, hf⟩ := hf
  refine p1055 h hq dX13_init_9 k2 ?_
  refine r_goW (fun M3 eM3 => ?_)
  have hf := hf M3 eM3
  exact r_return h hq dX13_init_12 ⟨rfl, hf⟩
theorem c1051 {l : Launch} {G : gG} {X : gX} {cc : ByteArray} {nL F L bc bs pc : Nat} {M : gM} {lv : List (Nat × Value)} {rest : List Value} {a0 : Nat} {K : gM → Prop} (hl : l.stackTraces = false) (h : hX l G X cc nL "GlacierMail$Reader" F L) (d : decode cc pc = .ok (.invokespecial 305, 3)) (hf : f_X13_init a0 M K) (hst : (rest.map fun v => v.category).sum ≤ 8) (hF : 2 ≤ F) (hL : 40 ≤ L) (h1 : 1 ≤ bc) (h2 : 8 ≤ bs) (kk : ∀ M1, K M1 → V l G X (bc - 1) (bs - 8) M1 (pc + 3) lv rest) : V l G X bc bs M pc lv (.ref a0 :: rest) := r_callIN (n := 0) (As := []) h (m_X13_init hl hf) ⟨by decide, by decide, by decide +kernel⟩ rfl d (List.mem_of_getElem? (i := 7) rfl) q1052 q157 q1053 rfl rfl hst hF hL h1 h2 (kV_go kk) kN_go
def f_X13_of (a0 : Nat) (a1 : Nat) (M : gM) (K : Int32 → gM → Prop) : Prop :=
  ∀ P7 : Nat → Nat → Int32 → Int32 → gM → Prop,
  (∀ (v0 : Nat) (v1 : Nat) (v2 : Int32) (v3 : Int32) (M : gM), (if 8 ≤ v3 then K v2 M else kd M v0 = some (.inl 13) ∧ ∃ b4, rv M v0 0 = some b4 ∧ inA M b4 0 v3 ∧ inA M v1 0 v3 ∧ P7 v0 v1 (v2 + ((iv M b4 (ix v3)) * (iv M v1 (ix v3)))) (v3 + 1) M) → P7 v0 v1 v2 v3 M) →
  kd M a0 = some (.inl 13) ∧ P7 a0 a1 (iv M a0 1) 0 M
set_option maxHeartbeats 4000000 in
theorem m_X13_of {l : Launch} (hl : l.stackTraces = false) {G : gG} {a0 : Nat} {a1 : Nat} {M : gM} {K : Int32 → gM → Prop} (hf : f_X13_of a0 a1 M K) : gMet l G yX13_of (ws_ yX13_of cX13_of 4 (some Jvm.ClassFile.FieldType.int)) ({ frames := 0, cells := 0, slots := 0, locals := 0 }) M [.ref a0, .ref a1] (kI K) kN := by
  refine gm_of hl (ret := (some Jvm.ClassFile.FieldType.int)) rfl (Nat.le_of_ble_eq_true rfl) (fun X h hq => ?_)
  have h : hX l G X cX13_of 4 "GlacierMail$Sum" 0 0 := h
  have hf := hf
  show V l G X 0 0 M 0 [(0, .ref a0), (1, .ref a1)] []
  have hf := hf
    (fun v0 v1 v2 v3 M => V l G X 0 0 M 7 [(0, .ref v0), (1, .ref v1), (2, .int v2), (3, .int v3)] [])
    (by
      intro v0 v1 v2 v3 M hf
      show V l G X 0 0 M 7 [(0, .ref v0), (1, .ref v1), (2, .int v2), (3, .int v3)] []
      refine r_iload_n h 3 dX13_of_7 rfl rfl ?_
      refine r_bipush (v := 8) h dX13_of_8 (by decide) ?_
      refine r_icmp_ge (tgt := 32) h dX13_of_10 (by decide) (fun c2 => ?_) (fun c2 => ?_)
      · have hf := ite_t c2 hf
        refine r_iload_n h 2 dX13_of_32 rfl rfl ?_
        exact r_ireturn h hq dX13_of_33 ⟨_, rfl, hf⟩
      · have hf := ite_f c2 hf
        refine r_iload_n h 2 dX13_of_13 rfl rfl ?_
        refine r_aload_n h 0 dX13_of_14 rfl rfl ?_
        obtain ⟨k3, hf⟩ := hf
        obtain ⟨b4, e5, hf⟩ := hf
        refine g1055 h dX13_of_15 k3 e5 ?_
        refine r_iload_n h 3 dX13_of_18 rfl rfl ?_
        obtain ⟨j6, hf⟩ := hf
        refine r_iaload h dX13_of_19 j6 ?_
        refine r_aload_n h 1 dX13_of_20 rfl rfl ?_
        refine r_iload_n h 3 dX13_of_21 rfl rfl ?_
        obtain ⟨j7, hf⟩ := hf
        refine r_iaload h dX13_of_22 j7 ?_
        refine r_imul h dX13_of_23 ?_
        refine r_iadd h dX13_of_24 ?_
        refine r_istore_n (lv' := [(2, .int (v2 + ((iv M b4 (ix v3)) * (iv M v1 (ix v3))))), (0, .ref v0), (1, .ref v1), (3, .int v3)]) h dX13_of_25 rfl (by decide) rfl ?_
        refine r_iinc (v := v3 + 1) (lv' := [(3, .int (v3 + 1)), (2, .int (v2 + ((iv M b4 (ix v3)) * (iv M v1 (ix v3))))), (0, .ref v0), (1, .ref v1)]) h 3 dX13_of_26 rfl rfl (by decide) rfl ?_
        refine r_goto (tgt := 7) h dX13_of_29 (by decide) ?_
        exact V.sub [2, 3, 1, 0] rfl hf)
  refine r_aload_n h 0 dX13_of_0 rfl rfl ?_
  obtain ⟨k1, hf⟩ := hf
  refine g1057 h dX13_of_1 k1 ?_
  refine r_istore_n (lv' := [(2, .int (iv M a0 1)), (0, .ref a0), (1, .ref a1)]) h dX13_of_4 rfl (by decide) rfl ?_
  refine r_iconst (v := 0) h dX13_of_5 (by decide) ?_
  refine r_istore_n (lv' := [(3, .int 0), (2, .int (iv M a0 1)), (0, .ref a0), (1, .ref a1)]) h dX13_of_6 rfl (by decide) rfl ?_
  exact V.sub [2, 3, 1, 0] rfl hf
theorem c702 {l : Launch} {G : gG} {X : gX} {cc : ByteArray} {nL F L bc bs pc : Nat} {M : gM} {lv : List (Nat × Value)} {rest : List Value} {a0 : Nat} {a1 : Nat} {K : Int32 → gM → Prop} (hl : l.stackTraces = false) (h : hX l G X cc nL "GlacierMail$Less" F L) (d : decode cc pc = .ok (.invokevirtual 16, 3)) (hk : kd M a0 = some (.inl 13)) (hf : f_X13_of a0 a1 M K) (hst : (rest.map fun v => v.category).sum ≤ 8) (hF : 1 ≤ F) (hL : 23 ≤ L) (kk : ∀ x M1, K x M1 → V l G X bc bs M1 (pc + 3) lv (.int x :: rest)) : V l G X bc bs M pc lv (.ref a1 :: .ref a0 :: rest) := r_callV (n := 1) (As := [.ref a1]) h (m_X13_of hl hf) 13 rfl hk rfl ⟨by decide, by decide, by decide +kernel⟩ d q702 q703 q704 q157 q705 rfl rfl hst hF hL (Nat.zero_le _) (Nat.zero_le _) (kI_go kk) kN_go
/-- some condition there answers so -/
def gHold (l : Launch) (G : gG) (a0 a1 : Nat) (M : gM) (K : Int32 → gM → Prop) (fr lo : Nat) : Prop := (kd M a0 = some (.inl 11) ∧ gMet l G yX11_holds (ws_ yX11_holds cX11_holds 3 (some .boolean)) ({ frames := fr, cells := 0, slots := 0, locals := lo }) M [.ref a0, .ref a1] (kI K) kN) ∨ (kd M a0 = some (.inl 12) ∧ gMet l G yX12_holds (ws_ yX12_holds cX12_holds 2 (some .boolean)) ({ frames := fr, cells := 0, slots := 0, locals := lo }) M [.ref a0, .ref a1] (kI K) kN) ∨ (kd M a0 = some (.inl 14) ∧ gMet l G yX14_holds (ws_ yX14_holds cX14_holds 2 (some .boolean)) ({ frames := fr, cells := 0, slots := 0, locals := lo }) M [.ref a0, .ref a1] (kI K) kN) ∨ (kd M a0 = some (.inl 15) ∧ gMet l G yX15_holds (ws_ yX15_holds cX15_holds 2 (some .boolean)) ({ frames := fr, cells := 0, slots := 0, locals := lo }) M [.ref a0, .ref a1] (kI K) kN)
theorem ch685 {l : Launch} {G : gG} {X : gX} {cc : ByteArray} {nL F L bc bs pc : Nat} {M : gM} {lv : List (Nat × Value)} {rest : List Value} {a0 a1 fr lo : Nat} {K : Int32 → gM → Prop} (h : hX l G X cc nL "GlacierMail$Line" F L) (d : decode cc pc = .ok (.invokeinterface 13 2, 5)) (hg : gHold l G a0 a1 M K fr lo) (hst : (rest.map fun v => v.category).sum ≤ 8) (hF : fr + 1 ≤ F) (hL : 22 + lo ≤ L) (kk : ∀ x M1, K x M1 → V l G X bc bs M1 (pc + 5) lv (.int x :: rest)) : V l G X bc bs M pc lv (.ref a1 :: .ref a0 :: rest) := by
  rcases hg with ⟨hk, hM⟩ | ⟨hk, hM⟩ | ⟨hk, hM⟩ | ⟨hk, hM⟩
  · exact r_callF (x := ⟨"GlacierMail$Cond", "holds", "([I)Z"⟩) (n := 1) (As := [.ref a1]) h hM 11 rfl hk ⟨by decide, by decide, by decide +kernel⟩ (List.mem_of_getElem? (i := 0) rfl) d q685 q689 q691 q155 q693 rfl rfl hst hF (Nat.le_trans (Nat.add_le_add_right (by decide : 8 + (3 + 11) ≤ 22) lo) hL) (Nat.zero_le _) (Nat.zero_le _) (kI_go5 kk) kN_go
  · exact r_callF (x := ⟨"GlacierMail$Cond", "holds", "([I)Z"⟩) (n := 1) (As := [.ref a1]) h hM 12 rfl hk ⟨by decide, by decide, by decide +kernel⟩ (List.mem_of_getElem? (i := 1) rfl) d q685 q715 q717 q156 q719 rfl rfl hst hF (Nat.le_trans (Nat.add_le_add_right (by decide : 8 + (2 + 11) ≤ 22) lo) hL) (Nat.zero_le _) (Nat.zero_le _) (kI_go5 kk) kN_go
  · exact r_callF (x := ⟨"GlacierMail$Cond", "holds", "([I)Z"⟩) (n := 1) (As := [.ref a1]) h hM 14 rfl hk ⟨by decide, by decide, by decide +kernel⟩ (List.mem_of_getElem? (i := 2) rfl) d q685 q697 q699 q158 q701 rfl rfl hst hF (Nat.le_trans (Nat.add_le_add_right (by decide : 8 + (2 + 11) ≤ 22) lo) hL) (Nat.zero_le _) (Nat.zero_le _) (kI_go5 kk) kN_go
  · exact r_callF (x := ⟨"GlacierMail$Cond", "holds", "([I)Z"⟩) (n := 1) (As := [.ref a1]) h hM 15 rfl hk ⟨by decide, by decide, by decide +kernel⟩ (List.mem_of_getElem? (i := 3) rfl) d q685 q707 q709 q159 q711 rfl rfl hst hF (Nat.le_trans (Nat.add_le_add_right (by decide : 8 + (2 + 11) ≤ 22) lo) hL) (Nat.zero_le _) (Nat.zero_le _) (kI_go5 kk) kN_go
theorem ch695 {l : Launch} {G : gG} {X : gX} {cc : ByteArray} {nL F L bc bs pc : Nat} {M : gM} {lv : List (Nat × Value)} {rest : List Value} {a0 a1 fr lo : Nat} {K : Int32 → gM → Prop} (h : hX l G X cc nL "GlacierMail$Chain" F L) (d : decode cc pc = .ok (.invokeinterface 17 2, 5)) (hg : gHold l G a0 a1 M K fr lo) (hst : (rest.map fun v => v.category).sum ≤ 8) (hF : fr + 1 ≤ F) (hL : 22 + lo ≤ L) (kk : ∀ x M1, K x M1 → V l G X bc bs M1 (pc + 5) lv (.int x :: rest)) : V l G X bc bs M pc lv (.ref a1 :: .ref a0 :: rest) := by
  rcases hg with ⟨hk, hM⟩ | ⟨hk, hM⟩ | ⟨hk, hM⟩ | ⟨hk, hM⟩
  · exact r_callF (x := ⟨"GlacierMail$Cond", "holds", "([I)Z"⟩) (n := 1) (As := [.ref a1]) h hM 11 rfl hk ⟨by decide, by decide, by decide +kernel⟩ (List.mem_of_getElem? (i := 0) rfl) d q695 q689 q691 q155 q693 rfl rfl hst hF (Nat.le_trans (Nat.add_le_add_right (by decide : 8 + (3 + 11) ≤ 22) lo) hL) (Nat.zero_le _) (Nat.zero_le _) (kI_go5 kk) kN_go
  · exact r_callF (x := ⟨"GlacierMail$Cond", "holds", "([I)Z"⟩) (n := 1) (As := [.ref a1]) h hM 12 rfl hk ⟨by decide, by decide, by decide +kernel⟩ (List.mem_of_getElem? (i := 1) rfl) d q695 q715 q717 q156 q719 rfl rfl hst hF (Nat.le_trans (Nat.add_le_add_right (by decide : 8 + (2 + 11) ≤ 22) lo) hL) (Nat.zero_le _) (Nat.zero_le _) (kI_go5 kk) kN_go
  · exact r_callF (x := ⟨"GlacierMail$Cond", "holds", "([I)Z"⟩) (n := 1) (As := [.ref a1]) h hM 14 rfl hk ⟨by decide, by decide, by decide +kernel⟩ (List.mem_of_getElem? (i := 2) rfl) d q695 q697 q699 q158 q701 rfl rfl hst hF (Nat.le_trans (Nat.add_le_add_right (by decide : 8 + (2 + 11) ≤ 22) lo) hL) (Nat.zero_le _) (Nat.zero_le _) (kI_go5 kk) kN_go
  · exact r_callF (x := ⟨"GlacierMail$Cond", "holds", "([I)Z"⟩) (n := 1) (As := [.ref a1]) h hM 15 rfl hk ⟨by decide, by decide, by decide +kernel⟩ (List.mem_of_getElem? (i := 3) rfl) d q695 q707 q709 q159 q711 rfl rfl hst hF (Nat.le_trans (Nat.add_le_add_right (by decide : 8 + (2 + 11) ≤ 22) lo) hL) (Nat.zero_le _) (Nat.zero_le _) (kI_go5 kk) kN_go
theorem ch713 {l : Launch} {G : gG} {X : gX} {cc : ByteArray} {nL F L bc bs pc : Nat} {M : gM} {lv : List (Nat × Value)} {rest : List Value} {a0 a1 fr lo : Nat} {K : Int32 → gM → Prop} (h : hX l G X cc nL "GlacierMail$Not" F L) (d : decode cc pc = .ok (.invokeinterface 13 2, 5)) (hg : gHold l G a0 a1 M K fr lo) (hst : (rest.map fun v => v.category).sum ≤ 8) (hF : fr + 1 ≤ F) (hL : 22 + lo ≤ L) (kk : ∀ x M1, K x M1 → V l G X bc bs M1 (pc + 5) lv (.int x :: rest)) : V l G X bc bs M pc lv (.ref a1 :: .ref a0 :: rest) := by
  rcases hg with ⟨hk, hM⟩ | ⟨hk, hM⟩ | ⟨hk, hM⟩ | ⟨hk, hM⟩
  · exact r_callF (x := ⟨"GlacierMail$Cond", "holds", "([I)Z"⟩) (n := 1) (As := [.ref a1]) h hM 11 rfl hk ⟨by decide, by decide, by decide +kernel⟩ (List.mem_of_getElem? (i := 0) rfl) d q713 q689 q691 q155 q693 rfl rfl hst hF (Nat.le_trans (Nat.add_le_add_right (by decide : 8 + (3 + 11) ≤ 22) lo) hL) (Nat.zero_le _) (Nat.zero_le _) (kI_go5 kk) kN_go
  · exact r_callF (x := ⟨"GlacierMail$Cond", "holds", "([I)Z"⟩) (n := 1) (As := [.ref a1]) h hM 12 rfl hk ⟨by decide, by decide, by decide +kernel⟩ (List.mem_of_getElem? (i := 1) rfl) d q713 q715 q717 q156 q719 rfl rfl hst hF (Nat.le_trans (Nat.add_le_add_right (by decide : 8 + (2 + 11) ≤ 22) lo) hL) (Nat.zero_le _) (Nat.zero_le _) (kI_go5 kk) kN_go
  · exact r_callF (x := ⟨"GlacierMail$Cond", "holds", "([I)Z"⟩) (n := 1) (As := [.ref a1]) h hM 14 rfl hk ⟨by decide, by decide, by decide +kernel⟩ (List.mem_of_getElem? (i := 2) rfl) d q713 q697 q699 q158 q701 rfl rfl hst hF (Nat.le_trans (Nat.add_le_add_right (by decide : 8 + (2 + 11) ≤ 22) lo) hL) (Nat.zero_le _) (Nat.zero_le _) (kI_go5 kk) kN_go
  · exact r_callF (x := ⟨"GlacierMail$Cond", "holds", "([I)Z"⟩) (n := 1) (As := [.ref a1]) h hM 15 rfl hk ⟨by decide, by decide, by decide +kernel⟩ (List.mem_of_getElem? (i := 3) rfl) d q713 q707 q709 q159 q711 rfl rfl hst hF (Nat.le_trans (Nat.add_le_add_right (by decide : 8 + (2 + 11) ≤ 22) lo) hL) (Nat.zero_le _) (Nat.zero_le _) (kI_go5 kk) kN_go
def f_X11_holds (fH : Nat → Nat → gM → (Int32 → gM → Prop) → Prop) (a0 : Nat) (a1 : Nat) (M : gM) (K : Int32 → gM → Prop) : Prop :=
  ∀ P2 : Nat → Nat → Option Nat → gM → Prop,
  (∀ (v0 : Nat) (v1 : Nat) (v2 : Option Nat) (M : gM), ((v2 = none → kd M v0 = some (.inl 11) ∧ ((iv M v0 1) = 0 ∨ (iv M v0 1) = 1) ∧ K (iv M v0 1) M) ∧ (∀ b2, v2 = some b2 → kd M b2 = some (.inl 11) ∧ ∃ b5, rv M b2 0 = some b5 ∧ fH b5 v1 M (fun x8 M7 => kd M7 v0 = some (.inl 11) ∧ if x8 = (iv M7 v0 1) then kd M7 b2 = some (.inl 11) ∧ P2 v0 v1 (rv M7 b2 2) M7 else if (iv M7 v0 1) = 0 then K 1 M7 else K 0 M7))) → P2 v0 v1 v2 M) →
  P2 a0 a1 (some a0) M
set_option maxHeartbeats 4000000 in
theorem m_X11_holds {l : Launch} (hl : l.stackTraces = false) {G : gG}  {fH : Nat → Nat → gM → (Int32 → gM → Prop) → Prop}{a0 : Nat} {a1 : Nat} {M : gM} {K : Int32 → gM → Prop} {FR LO fr1 lo1 : Nat} (IH_holds : ∀ {a0 a1 : Nat} {M : gM} {K : Int32 → gM → Prop}, fH a0 a1 M K → gHold l G a0 a1 M K fr1 lo1) (hF0 : 0 ≤ FR) (hL0 : 0 ≤ LO) (hF1 : fr1 + 1 ≤ FR) (hL1 : 22 + lo1 ≤ LO) (hf : f_X11_holds fH a0 a1 M K) : gMet l G yX11_holds (ws_ yX11_holds cX11_holds 3 (some Jvm.ClassFile.FieldType.boolean)) ({ frames := FR, cells := 0, slots := 0, locals := LO }) M [.ref a0, .ref a1] (kI K) kN := by
  refine gm_of hl (ret := (some Jvm.ClassFile.FieldType.boolean)) rfl (Nat.le_of_ble_eq_true rfl) (fun X h hq => ?_)
  have h : hX l G X cX11_holds 3 "GlacierMail$Chain" FR LO := h
  have hf := hf
  show V l G X 0 0 M 0 [(0, .ref a0), (1, .ref a1)] []
  have hf := hf
    (fun v0 v1 v2 M => V l G X 0 0 M 2 [(0, .ref v0), (1, .ref v1), (2, va_rf v2)] [])
    (by
      intro v0 v1 v2 M hf
      show V l G X 0 0 M 2 [(0, .ref v0), (1, .ref v1), (2, va_rf v2)] []
      refine r_aload_nO h 2 dX11_holds_2 rfl rfl ?_
      refine r_ifnullO (tgt := 44) h dX11_holds_3 (by decide) (fun c1 => ?_) (fun b2 c1 => ?_)
      · replace hf := hf.1 c1
        subst c1
        refine r_aload_n h 0 dX11_holds_44 rfl rfl ?_
        obtain ⟨k3, hf⟩ := hf
        refine g1100 h dX11_holds_45 k3 ?_
        exact r_zreturn h hq dX11_holds_48 hf.1 ⟨_, rfl, hf.2⟩
      · replace hf := hf.2 b2 c1
        subst c1
        refine r_aload_n h 2 dX11_holds_6 rfl rfl ?_
        obtain ⟨k4, hf⟩ := hf
        obtain ⟨b5, e6, hf⟩ := hf
        refine g1099 h dX11_holds_7 k4 e6 ?_
        refine r_aload_n h 1 dX11_holds_10 rfl rfl ?_
        refine ch695 h dX11_holds_11 (IH_holds hf) (Nat.le_of_ble_eq_true rfl) (by omega) (by omega) (fun x8 M7 hf => ?_)
        refine r_aload_n h 0 dX11_holds_16 rfl rfl ?_
        obtain ⟨k9, hf⟩ := hf
        refine g1100 h dX11_holds_17 k9 ?_
        refine r_icmp_eq (tgt := 36) h dX11_holds_20 (by decide) (fun c10 => ?_) (fun c10 => ?_)
        · have hf := ite_t c10 hf
          refine r_aload_n h 2 dX11_holds_36 rfl rfl ?_
          obtain ⟨k11, hf⟩ := hf
          refine g1101 h dX11_holds_37 k11 ?_
          refine r_astore_nO (lv' := [(2, va_rf (rv M7 b2 2)), (0, .ref v0), (1, .ref v1)]) h dX11_holds_40 rfl (by decide) rfl ?_
          refine r_goto (tgt := 2) h dX11_holds_41 (by decide) ?_
          exact V.sub [1, 2, 0] rfl hf
        · have hf := ite_f c10 hf
          refine r_aload_n h 0 dX11_holds_23 rfl rfl ?_
          refine g1100 h dX11_holds_24 k9 ?_
          refine r_if_ne (tgt := 34) h dX11_holds_27 (by decide) (fun c12 => ?_) (fun c12 => ?_)
          · have hf := ite_f c12 hf
            refine r_iconst (v := 0) h dX11_holds_34 (by decide) ?_
            exact r_zreturn h hq dX11_holds_35 (by decide) ⟨_, rfl, hf⟩
          · have hf := ite_t c12 hf
            refine r_iconst (v := 1) h dX11_holds_30 (by decide) ?_
            refine r_goto (tgt := 35) h dX11_holds_31 (by decide) ?_
            exact r_zreturn h hq dX11_holds_35 (by decide) ⟨_, rfl, hf⟩)
  refine r_aload_n h 0 dX11_holds_0 rfl rfl ?_
  refine r_astore_n (lv' := [(2, .ref a0), (0, .ref a0), (1, .ref a1)]) h dX11_holds_1 rfl (by decide) rfl ?_
  exact V.sub [1, 2, 0] rfl hf
def f_X12_holds (a0 : Nat) (a1 : Nat) (M : gM) (K : Int32 → gM → Prop) : Prop :=
  kd M a0 = some (.inl 12) ∧ inA M a1 0 (iv M a0 0) ∧ if (iv M a1 (ix (iv M a0 0))) = 0 then K 0 M else K 1 M
set_option maxHeartbeats 4000000 in
theorem m_X12_holds {l : Launch} (hl : l.stackTraces = false) {G : gG} {a0 : Nat} {a1 : Nat} {M : gM} {K : Int32 → gM → Prop} {FR LO : Nat} (hF0 : 0 ≤ FR) (hL0 : 0 ≤ LO) (hf : f_X12_holds a0 a1 M K) : gMet l G yX12_holds (ws_ yX12_holds cX12_holds 2 (some Jvm.ClassFile.FieldType.boolean)) ({ frames := FR, cells := 0, slots := 0, locals := LO }) M [.ref a0, .ref a1] (kI K) kN := by
  refine gm_of hl (ret := (some Jvm.ClassFile.FieldType.boolean)) rfl (Nat.le_of_ble_eq_true rfl) (fun X h hq => ?_)
  have h : hX l G X cX12_holds 2 "GlacierMail$Tag" FR LO := h
  have hf := hf
  show V l G X 0 0 M 0 [(0, .ref a0), (1, .ref a1)] []
  unfold f_X12_holds at hf
  refine r_aload_n h 1 dX12_holds_0 rfl rfl ?_
  refine r_aload_n h 0 dX12_holds_1 rfl rfl ?_
  obtain ⟨k1, hf⟩ := hf
  refine g1041 h dX12_holds_2 k1 ?_
  obtain ⟨j2, hf⟩ := hf
  refine r_iaload h dX12_holds_5 j2 ?_
  refine r_if_eq (tgt := 13) h dX12_holds_6 (by decide) (fun c3 => ?_) (fun c3 => ?_)
  · have hf := ite_t c3 hf
    refine r_iconst (v := 0) h dX12_holds_13 (by decide) ?_
    exact r_zreturn h hq dX12_holds_14 (by decide) ⟨_, rfl, hf⟩
  · have hf := ite_f c3 hf
    refine r_iconst (v := 1) h dX12_holds_9 (by decide) ?_
    refine r_goto (tgt := 14) h dX12_holds_10 (by decide) ?_
    exact r_zreturn h hq dX12_holds_14 (by decide) ⟨_, rfl, hf⟩
def f_X14_holds (a0 : Nat) (a1 : Nat) (M : gM) (K : Int32 → gM → Prop) : Prop :=
  kd M a0 = some (.inl 14) ∧ ∃ b2, rv M a0 0 = some b2 ∧ kd M b2 = some (.inl 13) ∧ f_X13_of b2 a1 M (fun x6 M5 => kd M5 a0 = some (.inl 14) ∧ ∃ b8, rv M5 a0 1 = some b8 ∧ kd M5 b8 = some (.inl 13) ∧ f_X13_of b8 a1 M5 (fun x12 M11 => if x12 ≤ x6 then K 0 M11 else K 1 M11))
set_option maxHeartbeats 4000000 in
theorem m_X14_holds {l : Launch} (hl : l.stackTraces = false) {G : gG} {a0 : Nat} {a1 : Nat} {M : gM} {K : Int32 → gM → Prop} {FR LO : Nat} (hF0 : 1 ≤ FR) (hL0 : 23 ≤ LO) (hf : f_X14_holds a0 a1 M K) : gMet l G yX14_holds (ws_ yX14_holds cX14_holds 2 (some Jvm.ClassFile.FieldType.boolean)) ({ frames := FR, cells := 0, slots := 0, locals := LO }) M [.ref a0, .ref a1] (kI K) kN := by
  refine gm_of hl (ret := (some Jvm.ClassFile.FieldType.boolean)) rfl (Nat.le_of_ble_eq_true rfl) (fun X h hq => ?_)
  have h : hX l G X cX14_holds 2 "GlacierMail$Less" FR LO := h
  have hf := hf
  show V l G X 0 0 M 0 [(0, .ref a0), (1, .ref a1)] []
  unfold f_X14_holds at hf
  refine r_aload_n h 0 dX14_holds_0 rfl rfl ?_
  obtain ⟨k1, hf⟩ := hf
  obtain ⟨b2, e3, hf⟩ := hf
  refine g1078 h dX14_holds_1 k1 e3 ?_
  refine r_aload_n h 1 dX14_holds_4 rfl rfl ?_
  obtain ⟨k4, hf⟩ := hf
  refine c702 hl h dX14_holds_5 k4 hf (Nat.le_of_ble_eq_true rfl) (by omega) (by omega) (fun x6 M5 hf => ?_)
  refine r_aload_n h 0 dX14_holds_8 rfl rfl ?_
  obtain ⟨k7, hf⟩ := hf
  obtain ⟨b8, e9, hf⟩ := hf
  refine g1079 h dX14_holds_9 k7 e9 ?_
  refine r_aload_n h 1 dX14_holds_12 rfl rfl ?_
  obtain ⟨k10, hf⟩ := hf
  refine c702 hl h dX14_holds_13 k10 hf (Nat.le_of_ble_eq_true rfl) (by omega) (by omega) (fun x12 M11 hf => ?_)
  refine r_icmp_ge (tgt := 23) h dX14_holds_16 (by decide) (fun c13 => ?_) (fun c13 => ?_)
  · have hf := ite_t c13 hf
    refine r_iconst (v := 0) h dX14_holds_23 (by decide) ?_
    exact r_zreturn h hq dX14_holds_24 (by decide) ⟨_, rfl, hf⟩
  · have hf := ite_f c13 hf
    refine r_iconst (v := 1) h dX14_holds_19 (by decide) ?_
    refine r_goto (tgt := 24) h dX14_holds_20 (by decide) ?_
    exact r_zreturn h hq dX14_holds_24 (by decide) ⟨_, rfl, hf⟩
def f_X15_holds (fH : Nat → Nat → gM → (Int32 → gM → Prop) → Prop) (a0 : Nat) (a1 : Nat) (M : gM) (K : Int32 → gM → Prop) : Prop :=
  kd M a0 = some (.inl 15) ∧ ∃ b2, rv M a0 0 = some b2 ∧ fH b2 a1 M (fun x5 M4 => if x5 = 0 then K 1 M4 else K 0 M4)
set_option maxHeartbeats 4000000 in
theorem m_X15_holds {l : Launch} (hl : l.stackTraces = false) {G : gG}  {fH : Nat → Nat → gM → (Int32 → gM → Prop) → Prop}{a0 : Nat} {a1 : Nat} {M : gM} {K : Int32 → gM → Prop} {FR LO fr1 lo1 : Nat} (IH_holds : ∀ {a0 a1 : Nat} {M : gM} {K : Int32 → gM → Prop}, fH a0 a1 M K → gHold l G a0 a1 M K fr1 lo1) (hF0 : 0 ≤ FR) (hL0 : 0 ≤ LO) (hF1 : fr1 + 1 ≤ FR) (hL1 : 22 + lo1 ≤ LO) (hf : f_X15_holds fH a0 a1 M K) : gMet l G yX15_holds (ws_ yX15_holds cX15_holds 2 (some Jvm.ClassFile.FieldType.boolean)) ({ frames := FR, cells := 0, slots := 0, locals := LO }) M [.ref a0, .ref a1] (kI K) kN := by
  refine gm_of hl (ret := (some Jvm.ClassFile.FieldType.boolean)) rfl (Nat.le_of_ble_eq_true rfl) (fun X h hq => ?_)
  have h : hX l G X cX15_holds 2 "GlacierMail$Not" FR LO := h
  have hf := hf
  show V l G X 0 0 M 0 [(0, .ref a0), (1, .ref a1)] []
  unfold f_X15_holds at hf
  refine r_aload_n h 0 dX15_holds_0 rfl rfl ?_
  obtain ⟨k1, hf⟩ := hf
  obtain ⟨b2, e3, hf⟩ := hf
  refine g1091 h dX15_holds_1 k1 e3 ?_
  refine r_aload_n h 1 dX15_holds_4 rfl rfl ?_
  refine ch713 h dX15_holds_5 (IH_holds hf) (Nat.le_of_ble_eq_true rfl) (by omega) (by omega) (fun x5 M4 hf => ?_)
  refine r_if_ne (tgt := 17) h dX15_holds_10 (by decide) (fun c6 => ?_) (fun c6 => ?_)
  · have hf := ite_f c6 hf
    refine r_iconst (v := 0) h dX15_holds_17 (by decide) ?_
    exact r_zreturn h hq dX15_holds_18 (by decide) ⟨_, rfl, hf⟩
  · have hf := ite_t c6 hf
    refine r_iconst (v := 1) h dX15_holds_13 (by decide) ?_
    refine r_goto (tgt := 18) h dX15_holds_14 (by decide) ?_
    exact r_zreturn h hq dX15_holds_18 (by decide) ⟨_, rfl, hf⟩
def fx_holds : Nat → Nat → Nat → gM → (Int32 → gM → Prop) → Prop
  | 0 => fun _ _ _ _ => False
  | n + 1 => fun a0 a1 M K => (kd M a0 = some (.inl 11) ∧ f_X11_holds (fx_holds n) a0 a1 M K) ∨ (kd M a0 = some (.inl 12) ∧ f_X12_holds a0 a1 M K) ∨ (kd M a0 = some (.inl 14) ∧ f_X14_holds a0 a1 M K) ∨ (kd M a0 = some (.inl 15) ∧ f_X15_holds (fx_holds n) a0 a1 M K)
theorem fm_holds {l : Launch} (hl : l.stackTraces = false) {G : gG} : ∀ (n : Nat) {a0 a1 : Nat} {M : gM} {K : Int32 → gM → Prop}, fx_holds n a0 a1 M K → gHold l G a0 a1 M K (n + 1) (22 * n + 23)
  | 0 => fun h => h.elim
  | n + 1 => fun h => by
    have ih := fun {a0 a1 : Nat} {M : gM} {K : Int32 → gM → Prop} (q : fx_holds n a0 a1 M K) => fm_holds hl (G := G) n q
    rcases h with ⟨hk, h⟩ | ⟨hk, h⟩ | ⟨hk, h⟩ | ⟨hk, h⟩
    · exact Or.inl ⟨hk, m_X11_holds hl ih (by omega) (by omega) (by omega) (by omega) h⟩
    · exact Or.inr (Or.inl ⟨hk, m_X12_holds hl (by omega) (by omega) h⟩)
    · exact Or.inr (Or.inr (Or.inl ⟨hk, m_X14_holds hl (by omega) (by omega) h⟩))
    · exact Or.inr (Or.inr (Or.inr ⟨hk, m_X15_holds hl ih (by omega) (by omega) (by omega) (by omega) h⟩))
def f_holds (a0 a1 : Nat) (M : gM) (K : Int32 → gM → Prop) : Prop := fx_holds 22 a0 a1 M K
theorem m_holds {l : Launch} (hl : l.stackTraces = false) {G : gG} {a0 a1 : Nat} {M : gM} {K : Int32 → gM → Prop} (h : f_holds a0 a1 M K) : gHold l G a0 a1 M K 23 507 := fm_holds hl 22 h
def f_X11_init (a0 : Nat) (a1 : Nat) (a2 : Int32) (M : gM) (K : gM → Prop) : Prop :=
  kd M a0 = some (.inl 11) ∧ ∀ M2, M2 = sR M a0 0 (some a1) → kd M2 a0 = some (.inl 11) ∧ (a2 = 0 ∨ a2 = 1) ∧ ∀ M5, M5 = sI M2 a0 1 a2 → K M5
set_option maxHeartbeats 4000000 in
theorem m_X11_init {l : Launch} (hl : l.stackTraces = false) {G : gG} {a0 : Nat} {a1 : Nat} {a2 : Int32} {M : gM} {K : gM → Prop} (hf : f_X11_init a0 a1 a2 M K) : gMet l G yX11_init (ws_ yX11_init cX11_init 3 none) ({ frames := 1, cells := 0, slots := 0, locals := 20 }) M [.ref a0, .ref a1, .int a2] (kV K) kN := by
  refine gm_of hl (ret := none) rfl (Nat.le_of_ble_eq_true rfl) (fun X h hq => ?_)
  have h : hX l G X cX11_init 3 "GlacierMail$Chain" 1 20 := h
  have hf := hf
  show V l G X 0 0 M 0 [(0, .ref a0), (1, .ref a1), (2, .int a2)] []
  unfold f_X11_init at hf
  refine r_aload_n h 0 dX11_init_0 rfl rfl ?_
  refine r_objinit h q1098 q175 q176 dX11_init_1 (by decide) (by decide) (Nat.le_of_ble_eq_true rfl) ?_
  refine r_aload_n h 0 dX11_init_4 rfl rfl ?_
  refine r_aload_n h 1 dX11_init_5 rfl rfl ?_
  obtain ⟨k1, hf⟩ := hf
  refine p1099 h hq dX11_init_6 k1 ?_
  refine r_goW (fun M2 eM2 => ?_)
  have hf := hf M2 eM2
  refine r_aload_n h 0 dX11_init_9 rfl rfl ?_
  refine r_iload_n h 2 dX11_init_10 rfl rfl ?_
  obtain ⟨k3, hf⟩ := hf
  obtain ⟨z4, hf⟩ := hf
  refine p1100 h hq dX11_init_11 k3 z4 ?_
  refine r_goW (fun M5 eM5 => ?_)
  have hf := hf M5 eM5
  exact r_return h hq dX11_init_14 ⟨rfl, hf⟩
theorem c1095 {l : Launch} {G : gG} {X : gX} {cc : ByteArray} {nL F L bc bs pc : Nat} {M : gM} {lv : List (Nat × Value)} {rest : List Value} {a0 : Nat} {a1 : Nat} {a2 : Int32} {K : gM → Prop} (hl : l.stackTraces = false) (h : hX l G X cc nL "GlacierMail$Reader" F L) (d : decode cc pc = .ok (.invokespecial 271, 3)) (hf : f_X11_init a0 a1 a2 M K) (hst : (rest.map fun v => v.category).sum ≤ 8) (hF : 2 ≤ F) (hL : 42 ≤ L) (kk : ∀ M1, K M1 → V l G X bc bs M1 (pc + 3) lv rest) : V l G X bc bs M pc lv (.int a2 :: .ref a1 :: .ref a0 :: rest) := r_callI (n := 2) (As := [.ref a1, .int a2]) h (m_X11_init hl hf) ⟨by decide, by decide, by decide +kernel⟩ rfl d q1095 q1096 q155 q1097 rfl rfl hst hF hL (Nat.zero_le _) (Nat.zero_le _) (kV_go kk) kN_go
def f_X12_init (a0 : Nat) (a1 : Int32) (M : gM) (K : gM → Prop) : Prop :=
  kd M a0 = some (.inl 12) ∧ ∀ M2, M2 = sI M a0 0 a1 → K M2
set_option maxHeartbeats 4000000 in
theorem m_X12_init {l : Launch} (hl : l.stackTraces = false) {G : gG} {a0 : Nat} {a1 : Int32} {M : gM} {K : gM → Prop} (hf : f_X12_init a0 a1 M K) : gMet l G yX12_init (ws_ yX12_init cX12_init 2 none) ({ frames := 1, cells := 0, slots := 0, locals := 20 }) M [.ref a0, .int a1] (kV K) kN := by
  refine gm_of hl (ret := none) rfl (Nat.le_of_ble_eq_true rfl) (fun X h hq => ?_)
  have h : hX l G X cX12_init 2 "GlacierMail$Tag" 1 20 := h
  have hf := hf
  show V l G X 0 0 M 0 [(0, .ref a0), (1, .int a1)] []
  unfold f_X12_init at hf
  refine r_aload_n h 0 dX12_init_0 rfl rfl ?_
  refine r_objinit h q1040 q175 q176 dX12_init_1 (by decide) (by decide) (Nat.le_of_ble_eq_true rfl) ?_
  refine r_aload_n h 0 dX12_init_4 rfl rfl ?_
  refine r_iload_n h 1 dX12_init_5 rfl rfl ?_
  obtain ⟨k1, hf⟩ := hf
  refine p1041 h hq dX12_init_6 k1 ?_
  refine r_goW (fun M2 eM2 => ?_)
  have hf := hf M2 eM2
  exact r_return h hq dX12_init_9 ⟨rfl, hf⟩
theorem c1037 {l : Launch} {G : gG} {X : gX} {cc : ByteArray} {nL F L bc bs pc : Nat} {M : gM} {lv : List (Nat × Value)} {rest : List Value} {a0 : Nat} {a1 : Int32} {K : gM → Prop} (hl : l.stackTraces = false) (h : hX l G X cc nL "GlacierMail$Reader" F L) (d : decode cc pc = .ok (.invokespecial 292, 3)) (hf : f_X12_init a0 a1 M K) (hst : (rest.map fun v => v.category).sum ≤ 8) (hF : 2 ≤ F) (hL : 41 ≤ L) (kk : ∀ M1, K M1 → V l G X bc bs M1 (pc + 3) lv rest) : V l G X bc bs M pc lv (.int a1 :: .ref a0 :: rest) := r_callI (n := 1) (As := [.int a1]) h (m_X12_init hl hf) ⟨by decide, by decide, by decide +kernel⟩ rfl d q1037 q1038 q156 q1039 rfl rfl hst hF hL (Nat.zero_le _) (Nat.zero_le _) (kV_go kk) kN_go
def f_X14_init (a0 : Nat) (a1 : Nat) (a2 : Nat) (M : gM) (K : gM → Prop) : Prop :=
  kd M a0 = some (.inl 14) ∧ ∀ M2, M2 = sR M a0 0 (some a1) → kd M2 a0 = some (.inl 14) ∧ ∀ M4, M4 = sR M2 a0 1 (some a2) → K M4
set_option maxHeartbeats 4000000 in
theorem m_X14_init {l : Launch} (hl : l.stackTraces = false) {G : gG} {a0 : Nat} {a1 : Nat} {a2 : Nat} {M : gM} {K : gM → Prop} (hf : f_X14_init a0 a1 a2 M K) : gMet l G yX14_init (ws_ yX14_init cX14_init 3 none) ({ frames := 1, cells := 0, slots := 0, locals := 20 }) M [.ref a0, .ref a1, .ref a2] (kV K) kN := by
  refine gm_of hl (ret := none) rfl (Nat.le_of_ble_eq_true rfl) (fun X h hq => ?_)
  have h : hX l G X cX14_init 3 "GlacierMail$Less" 1 20 := h
  have hf := hf
  show V l G X 0 0 M 0 [(0, .ref a0), (1, .ref a1), (2, .ref a2)] []
  unfold f_X14_init at hf
  refine r_aload_n h 0 dX14_init_0 rfl rfl ?_
  refine r_objinit h q1077 q175 q176 dX14_init_1 (by decide) (by decide) (Nat.le_of_ble_eq_true rfl) ?_
  refine r_aload_n h 0 dX14_init_4 rfl rfl ?_
  refine r_aload_n h 1 dX14_init_5 rfl rfl ?_
  obtain ⟨k1, hf⟩ := hf
  refine p1078 h hq dX14_init_6 k1 ?_
  refine r_goW (fun M2 eM2 => ?_)
  have hf := hf M2 eM2
  refine r_aload_n h 0 dX14_init_9 rfl rfl ?_
  refine r_aload_n h 2 dX14_init_10 rfl rfl ?_
  obtain ⟨k3, hf⟩ := hf
  refine p1079 h hq dX14_init_11 k3 ?_
  refine r_goW (fun M4 eM4 => ?_)
  have hf := hf M4 eM4
  exact r_return h hq dX14_init_14 ⟨rfl, hf⟩
theorem c1074 {l : Launch} {G : gG} {X : gX} {cc : ByteArray} {nL F L bc bs pc : Nat} {M : gM} {lv : List (Nat × Value)} {rest : List Value} {a0 : Nat} {a1 : Nat} {a2 : Nat} {K : gM → Prop} (hl : l.stackTraces = false) (h : hX l G X cc nL "GlacierMail$Reader" F L) (d : decode cc pc = .ok (.invokespecial 300, 3)) (hf : f_X14_init a0 a1 a2 M K) (hst : (rest.map fun v => v.category).sum ≤ 8) (hF : 2 ≤ F) (hL : 42 ≤ L) (kk : ∀ M1, K M1 → V l G X bc bs M1 (pc + 3) lv rest) : V l G X bc bs M pc lv (.ref a2 :: .ref a1 :: .ref a0 :: rest) := r_callI (n := 2) (As := [.ref a1, .ref a2]) h (m_X14_init hl hf) ⟨by decide, by decide, by decide +kernel⟩ rfl d q1074 q1075 q158 q1076 rfl rfl hst hF hL (Nat.zero_le _) (Nat.zero_le _) (kV_go kk) kN_go
def f_X15_init (a0 : Nat) (a1 : Nat) (M : gM) (K : gM → Prop) : Prop :=
  kd M a0 = some (.inl 15) ∧ ∀ M2, M2 = sR M a0 0 (some a1) → K M2
set_option maxHeartbeats 4000000 in
theorem m_X15_init {l : Launch} (hl : l.stackTraces = false) {G : gG} {a0 : Nat} {a1 : Nat} {M : gM} {K : gM → Prop} (hf : f_X15_init a0 a1 M K) : gMet l G yX15_init (ws_ yX15_init cX15_init 2 none) ({ frames := 1, cells := 0, slots := 0, locals := 20 }) M [.ref a0, .ref a1] (kV K) kN := by
  refine gm_of hl (ret := none) rfl (Nat.le_of_ble_eq_true rfl) (fun X h hq => ?_)
  have h : hX l G X cX15_init 2 "GlacierMail$Not" 1 20 := h
  have hf := hf
  show V l G X 0 0 M 0 [(0, .ref a0), (1, .ref a1)] []
  unfold f_X15_init at hf
  refine r_aload_n h 0 dX15_init_0 rfl rfl ?_
  refine r_objinit h q1090 q175 q176 dX15_init_1 (by decide) (by decide) (Nat.le_of_ble_eq_true rfl) ?_
  refine r_aload_n h 0 dX15_init_4 rfl rfl ?_
  refine r_aload_n h 1 dX15_init_5 rfl rfl ?_
  obtain ⟨k1, hf⟩ := hf
  refine p1091 h hq dX15_init_6 k1 ?_
  refine r_goW (fun M2 eM2 => ?_)
  have hf := hf M2 eM2
  exact r_return h hq dX15_init_9 ⟨rfl, hf⟩
theorem c1087 {l : Launch} {G : gG} {X : gX} {cc : ByteArray} {nL F L bc bs pc : Nat} {M : gM} {lv : List (Nat × Value)} {rest : List Value} {a0 : Nat} {a1 : Nat} {K : gM → Prop} (hl : l.stackTraces = false) (h : hX l G X cc nL "GlacierMail$Reader" F L) (d : decode cc pc = .ok (.invokespecial 289, 3)) (hf : f_X15_init a0 a1 M K) (hst : (rest.map fun v => v.category).sum ≤ 8) (hF : 2 ≤ F) (hL : 41 ≤ L) (kk : ∀ M1, K M1 → V l G X bc bs M1 (pc + 3) lv rest) : V l G X bc bs M pc lv (.ref a1 :: .ref a0 :: rest) := r_callI (n := 1) (As := [.ref a1]) h (m_X15_init hl hf) ⟨by decide, by decide, by decide +kernel⟩ rfl d q1087 q1088 q159 q1089 rfl rfl hst hF hL (Nat.zero_le _) (Nat.zero_le _) (kV_go kk) kN_go
def f_X16_init_17 (a0 : Nat) (a1 : Option Nat) (M : gM) (K : gM → Prop) : Prop :=
  kd M a0 = some (.inl 17) ∧ ∀ M2, M2 = sR M a0 0 a1 → K M2
set_option maxHeartbeats 4000000 in
theorem m_X16_init_17 {l : Launch} (hl : l.stackTraces = false) {G : gG} {a0 : Nat} {a1 : Option Nat} {M : gM} {K : gM → Prop} (hf : f_X16_init_17 a0 a1 M K) : gMet l G yX16_init (ws_ yX16_init cX16_init 2 none) ({ frames := 1, cells := 0, slots := 0, locals := 20 }) M [.ref a0, va_rf a1] (kV K) kN := by
  refine gm_of hl (ret := none) rfl (by cases a1 <;> exact Nat.le_of_ble_eq_true rfl) (fun X h hq => ?_)
  have h : hX l G X cX16_init 2 "GlacierMail$Line" 1 20 := h
  have hf := hf
  rw [show lv_args 0 [.ref a0, va_rf a1] = [(0, .ref a0), (1, va_rf a1)] from by cases a1 <;> rfl]
  show V l G X 0 0 M 0 [(0, .ref a0), (1, va_rf a1)] []
  unfold f_X16_init_17 at hf
  refine r_aload_n h 0 dX16_init_0 rfl rfl ?_
  refine r_objinit h q1120 q175 q176 dX16_init_1 (by decide) (by decide) (Nat.le_of_ble_eq_true rfl) ?_
  refine r_aload_n h 0 dX16_init_4 rfl rfl ?_
  refine r_aload_nO h 1 dX16_init_5 rfl rfl ?_
  obtain ⟨k1, hf⟩ := hf
  refine p1122_17 (b := a1) h hq dX16_init_6 k1 ?_
  refine r_goW (fun M2 eM2 => ?_)
  have hf := hf M2 eM2
  exact r_return h hq dX16_init_9 ⟨rfl, hf⟩
theorem c1117 {l : Launch} {G : gG} {X : gX} {cc : ByteArray} {nL F L bc bs pc : Nat} {M : gM} {lv : List (Nat × Value)} {rest : List Value} {a0 : Nat} {a1 : Option Nat} {K : gM → Prop} (hl : l.stackTraces = false) (h : hX l G X cc nL "GlacierMail$Fast" F L) (d : decode cc pc = .ok (.invokespecial 1, 3)) (hf : f_X16_init_17 a0 a1 M K) (hst : (rest.map fun v => v.category).sum ≤ 8) (hF : 2 ≤ F) (hL : 41 ≤ L) (kk : ∀ M1, K M1 → V l G X bc bs M1 (pc + 3) lv rest) : V l G X bc bs M pc lv (va_rf a1 :: .ref a0 :: rest) := r_callI (n := 1) (As := [va_rf a1]) h (m_X16_init_17 hl hf) ⟨by decide, by decide, by decide +kernel⟩ rfl d q1117 q1118 q160 q1119 rfl rfl hst hF hL (Nat.zero_le _) (Nat.zero_le _) (kV_go kk) kN_go
def f_X17_init (a0 : Nat) (a1 : Int32) (a2 : Option Nat) (M : gM) (K : gM → Prop) : Prop :=
  f_X16_init_17 a0 a2 M (fun M1 => kd M1 a0 = some (.inl 17) ∧ ∀ M3, M3 = sI M1 a0 1 a1 → K M3)
set_option maxHeartbeats 4000000 in
theorem m_X17_init {l : Launch} (hl : l.stackTraces = false) {G : gG} {a0 : Nat} {a1 : Int32} {a2 : Option Nat} {M : gM} {K : gM → Prop} (hf : f_X17_init a0 a1 a2 M K) : gMet l G yX17_init (ws_ yX17_init cX17_init 3 none) ({ frames := 2, cells := 0, slots := 0, locals := 41 }) M [.ref a0, .int a1, va_rf a2] (kV K) kN := by
  refine gm_of hl (ret := none) rfl (by cases a2 <;> exact Nat.le_of_ble_eq_true rfl) (fun X h hq => ?_)
  have h : hX l G X cX17_init 3 "GlacierMail$Fast" 2 41 := h
  have hf := hf
  rw [show lv_args 0 [.ref a0, .int a1, va_rf a2] = [(0, .ref a0), (1, .int a1), (2, va_rf a2)] from by cases a2 <;> rfl]
  show V l G X 0 0 M 0 [(0, .ref a0), (1, .int a1), (2, va_rf a2)] []
  unfold f_X17_init at hf
  refine r_aload_n h 0 dX17_init_0 rfl rfl ?_
  refine r_aload_nO h 2 dX17_init_1 rfl rfl ?_
  refine c1117 hl h dX17_init_2 hf (Nat.le_of_ble_eq_true rfl) (by decide) (by decide) (fun M1 hf => ?_)
  refine r_aload_n h 0 dX17_init_5 rfl rfl ?_
  refine r_iload_n h 1 dX17_init_6 rfl rfl ?_
  obtain ⟨k2, hf⟩ := hf
  refine p1121 h hq dX17_init_7 k2 ?_
  refine r_goW (fun M3 eM3 => ?_)
  have hf := hf M3 eM3
  exact r_return h hq dX17_init_10 ⟨rfl, hf⟩
theorem c1114 {l : Launch} {G : gG} {X : gX} {cc : ByteArray} {nL F L bc bs pc : Nat} {M : gM} {lv : List (Nat × Value)} {rest : List Value} {a0 : Nat} {a1 : Int32} {a2 : Option Nat} {K : gM → Prop} (hl : l.stackTraces = false) (h : hX l G X cc nL "GlacierMail$Reader" F L) (d : decode cc pc = .ok (.invokespecial 257, 3)) (hf : f_X17_init a0 a1 a2 M K) (hst : (rest.map fun v => v.category).sum ≤ 8) (hF : 3 ≤ F) (hL : 63 ≤ L) (kk : ∀ M1, K M1 → V l G X bc bs M1 (pc + 3) lv rest) : V l G X bc bs M pc lv (va_rf a2 :: .int a1 :: .ref a0 :: rest) := r_callI (n := 2) (As := [.int a1, va_rf a2]) h (m_X17_init hl hf) ⟨by decide, by decide, by decide +kernel⟩ rfl d q1114 q1115 q161 q1116 rfl rfl hst hF hL (Nat.zero_le _) (Nat.zero_le _) (kV_go kk) kN_go
def f_X16_is_17 (a0 : Nat) (a1 : Nat) (M : gM) (K : Int32 → gM → Prop) : Prop :=
  kd M a0 = some (.inl 17) ∧ ((rv M a0 0) = none → K 1 M) ∧ (∀ b3, (rv M a0 0) = some b3 → f_holds b3 a1 M (fun x5 M4 => if x5 = 0 then K 0 M4 else K 1 M4))
set_option maxHeartbeats 4000000 in
theorem m_X16_is_17 {l : Launch} (hl : l.stackTraces = false) {G : gG} {a0 : Nat} {a1 : Nat} {M : gM} {K : Int32 → gM → Prop} (hf : f_X16_is_17 a0 a1 M K) : gMet l G yX16_is (ws_ yX16_is cX16_is 2 (some Jvm.ClassFile.FieldType.boolean)) ({ frames := 24, cells := 0, slots := 0, locals := 529 }) M [.ref a0, .ref a1] (kI K) kN := by
  refine gm_of hl (ret := (some Jvm.ClassFile.FieldType.boolean)) rfl (Nat.le_of_ble_eq_true rfl) (fun X h hq => ?_)
  have h : hX l G X cX16_is 2 "GlacierMail$Line" 24 529 := h
  have hf := hf
  show V l G X 0 0 M 0 [(0, .ref a0), (1, .ref a1)] []
  unfold f_X16_is_17 at hf
  refine r_aload_n h 0 dX16_is_0 rfl rfl ?_
  obtain ⟨k1, hf⟩ := hf
  refine g1122_17 h dX16_is_1 k1 ?_
  refine r_ifnullO (tgt := 20) h dX16_is_4 (by decide) (fun c2 => ?_) (fun b3 c2 => ?_)
  · replace hf := hf.1 c2
    refine r_iconst (v := 1) h dX16_is_20 (by decide) ?_
    refine r_goto (tgt := 25) h dX16_is_21 (by decide) ?_
    exact r_zreturn h hq dX16_is_25 (by decide) ⟨_, rfl, hf⟩
  · replace hf := hf.2 b3 c2
    refine r_aload_n h 0 dX16_is_7 rfl rfl ?_
    refine g1122_17 h dX16_is_8 k1 ?_
    refine V.eqs (congrArg (fun z => va_rf z :: _) c2) ?_
    refine r_aload_n h 1 dX16_is_11 rfl rfl ?_
    refine ch685 h dX16_is_12 (m_holds hl hf) (Nat.le_of_ble_eq_true rfl) (by decide) (by decide) (fun x5 M4 hf => ?_)
    refine r_if_eq (tgt := 24) h dX16_is_17 (by decide) (fun c6 => ?_) (fun c6 => ?_)
    · have hf := ite_t c6 hf
      refine r_iconst (v := 0) h dX16_is_24 (by decide) ?_
      exact r_zreturn h hq dX16_is_25 (by decide) ⟨_, rfl, hf⟩
    · have hf := ite_f c6 hf
      refine r_iconst (v := 1) h dX16_is_20 (by decide) ?_
      refine r_goto (tgt := 25) h dX16_is_21 (by decide) ?_
      exact r_zreturn h hq dX16_is_25 (by decide) ⟨_, rfl, hf⟩
def f_X16_init_18 (a0 : Nat) (a1 : Option Nat) (M : gM) (K : gM → Prop) : Prop :=
  kd M a0 = some (.inl 18) ∧ ∀ M2, M2 = sR M a0 0 a1 → K M2
set_option maxHeartbeats 4000000 in
theorem m_X16_init_18 {l : Launch} (hl : l.stackTraces = false) {G : gG} {a0 : Nat} {a1 : Option Nat} {M : gM} {K : gM → Prop} (hf : f_X16_init_18 a0 a1 M K) : gMet l G yX16_init (ws_ yX16_init cX16_init 2 none) ({ frames := 1, cells := 0, slots := 0, locals := 20 }) M [.ref a0, va_rf a1] (kV K) kN := by
  refine gm_of hl (ret := none) rfl (by cases a1 <;> exact Nat.le_of_ble_eq_true rfl) (fun X h hq => ?_)
  have h : hX l G X cX16_init 2 "GlacierMail$Line" 1 20 := h
  have hf := hf
  rw [show lv_args 0 [.ref a0, va_rf a1] = [(0, .ref a0), (1, va_rf a1)] from by cases a1 <;> rfl]
  show V l G X 0 0 M 0 [(0, .ref a0), (1, va_rf a1)] []
  unfold f_X16_init_18 at hf
  refine r_aload_n h 0 dX16_init_0 rfl rfl ?_
  refine r_objinit h q1120 q175 q176 dX16_init_1 (by decide) (by decide) (Nat.le_of_ble_eq_true rfl) ?_
  refine r_aload_n h 0 dX16_init_4 rfl rfl ?_
  refine r_aload_nO h 1 dX16_init_5 rfl rfl ?_
  obtain ⟨k1, hf⟩ := hf
  refine p1122_18 (b := a1) h hq dX16_init_6 k1 ?_
  refine r_goW (fun M2 eM2 => ?_)
  have hf := hf M2 eM2
  exact r_return h hq dX16_init_9 ⟨rfl, hf⟩
theorem c1133 {l : Launch} {G : gG} {X : gX} {cc : ByteArray} {nL F L bc bs pc : Nat} {M : gM} {lv : List (Nat × Value)} {rest : List Value} {a0 : Nat} {a1 : Option Nat} {K : gM → Prop} (hl : l.stackTraces = false) (h : hX l G X cc nL "GlacierMail$Opens" F L) (d : decode cc pc = .ok (.invokespecial 1, 3)) (hf : f_X16_init_18 a0 a1 M K) (hst : (rest.map fun v => v.category).sum ≤ 8) (hF : 2 ≤ F) (hL : 41 ≤ L) (kk : ∀ M1, K M1 → V l G X bc bs M1 (pc + 3) lv rest) : V l G X bc bs M pc lv (va_rf a1 :: .ref a0 :: rest) := r_callI (n := 1) (As := [va_rf a1]) h (m_X16_init_18 hl hf) ⟨by decide, by decide, by decide +kernel⟩ rfl d q1133 q1118 q160 q1119 rfl rfl hst hF hL (Nat.zero_le _) (Nat.zero_le _) (kV_go kk) kN_go
def f_X18_init (a0 : Nat) (a1 : Option Nat) (M : gM) (K : gM → Prop) : Prop :=
  f_X16_init_18 a0 a1 M (fun M1 => K M1)
set_option maxHeartbeats 4000000 in
theorem m_X18_init {l : Launch} (hl : l.stackTraces = false) {G : gG} {a0 : Nat} {a1 : Option Nat} {M : gM} {K : gM → Prop} (hf : f_X18_init a0 a1 M K) : gMet l G yX18_init (ws_ yX18_init cX18_init 2 none) ({ frames := 2, cells := 0, slots := 0, locals := 41 }) M [.ref a0, va_rf a1] (kV K) kN := by
  refine gm_of hl (ret := none) rfl (by cases a1 <;> exact Nat.le_of_ble_eq_true rfl) (fun X h hq => ?_)
  have h : hX l G X cX18_init 2 "GlacierMail$Opens" 2 41 := h
  have hf := hf
  rw [show lv_args 0 [.ref a0, va_rf a1] = [(0, .ref a0), (1, va_rf a1)] from by cases a1 <;> rfl]
  show V l G X 0 0 M 0 [(0, .ref a0), (1, va_rf a1)] []
  unfold f_X18_init at hf
  refine r_aload_n h 0 dX18_init_0 rfl rfl ?_
  refine r_aload_nO h 1 dX18_init_1 rfl rfl ?_
  refine c1133 hl h dX18_init_2 hf (Nat.le_of_ble_eq_true rfl) (by decide) (by decide) (fun M1 hf => ?_)
  exact r_return h hq dX18_init_5 ⟨rfl, hf⟩
theorem c1130 {l : Launch} {G : gG} {X : gX} {cc : ByteArray} {nL F L bc bs pc : Nat} {M : gM} {lv : List (Nat × Value)} {rest : List Value} {a0 : Nat} {a1 : Option Nat} {K : gM → Prop} (hl : l.stackTraces = false) (h : hX l G X cc nL "GlacierMail$Reader" F L) (d : decode cc pc = .ok (.invokespecial 262, 3)) (hf : f_X18_init a0 a1 M K) (hst : (rest.map fun v => v.category).sum ≤ 8) (hF : 3 ≤ F) (hL : 62 ≤ L) (kk : ∀ M1, K M1 → V l G X bc bs M1 (pc + 3) lv rest) : V l G X bc bs M pc lv (va_rf a1 :: .ref a0 :: rest) := r_callI (n := 1) (As := [va_rf a1]) h (m_X18_init hl hf) ⟨by decide, by decide, by decide +kernel⟩ rfl d q1130 q1131 q162 q1132 rfl rfl hst hF hL (Nat.zero_le _) (Nat.zero_le _) (kV_go kk) kN_go
def f_X16_is_18 (a0 : Nat) (a1 : Nat) (M : gM) (K : Int32 → gM → Prop) : Prop :=
  kd M a0 = some (.inl 18) ∧ ((rv M a0 0) = none → K 1 M) ∧ (∀ b3, (rv M a0 0) = some b3 → f_holds b3 a1 M (fun x5 M4 => if x5 = 0 then K 0 M4 else K 1 M4))
set_option maxHeartbeats 4000000 in
theorem m_X16_is_18 {l : Launch} (hl : l.stackTraces = false) {G : gG} {a0 : Nat} {a1 : Nat} {M : gM} {K : Int32 → gM → Prop} (hf : f_X16_is_18 a0 a1 M K) : gMet l G yX16_is (ws_ yX16_is cX16_is 2 (some Jvm.ClassFile.FieldType.boolean)) ({ frames := 24, cells := 0, slots := 0, locals := 529 }) M [.ref a0, .ref a1] (kI K) kN := by
  refine gm_of hl (ret := (some Jvm.ClassFile.FieldType.boolean)) rfl (Nat.le_of_ble_eq_true rfl) (fun X h hq => ?_)
  have h : hX l G X cX16_is 2 "GlacierMail$Line" 24 529 := h
  have hf := hf
  show V l G X 0 0 M 0 [(0, .ref a0), (1, .ref a1)] []
  unfold f_X16_is_18 at hf
  refine r_aload_n h 0 dX16_is_0 rfl rfl ?_
  obtain ⟨k1, hf⟩ := hf
  refine g1122_18 h dX16_is_1 k1 ?_
  refine r_ifnullO (tgt := 20) h dX16_is_4 (by decide) (fun c2 => ?_) (fun b3 c2 => ?_)
  · replace hf := hf.1 c2
    refine r_iconst (v := 1) h dX16_is_20 (by decide) ?_
    refine r_goto (tgt := 25) h dX16_is_21 (by decide) ?_
    exact r_zreturn h hq dX16_is_25 (by decide) ⟨_, rfl, hf⟩
  · replace hf := hf.2 b3 c2
    refine r_aload_n h 0 dX16_is_7 rfl rfl ?_
    refine g1122_18 h dX16_is_8 k1 ?_
    refine V.eqs (congrArg (fun z => va_rf z :: _) c2) ?_
    refine r_aload_n h 1 dX16_is_11 rfl rfl ?_
    refine ch685 h dX16_is_12 (m_holds hl hf) (Nat.le_of_ble_eq_true rfl) (by decide) (by decide) (fun x5 M4 hf => ?_)
    refine r_if_eq (tgt := 24) h dX16_is_17 (by decide) (fun c6 => ?_) (fun c6 => ?_)
    · have hf := ite_t c6 hf
      refine r_iconst (v := 0) h dX16_is_24 (by decide) ?_
      exact r_zreturn h hq dX16_is_25 (by decide) ⟨_, rfl, hf⟩
    · have hf := ite_f c6 hf
      refine r_iconst (v := 1) h dX16_is_20 (by decide) ?_
      refine r_goto (tgt := 25) h dX16_is_21 (by decide) ?_
      exact r_zreturn h hq dX16_is_25 (by decide) ⟨_, rfl, hf⟩
def f_X16_faster (a0 : Nat) (M : gM) (K : Int32 → gM → Prop) : Prop :=
  K 0 M
set_option maxHeartbeats 4000000 in
theorem m_X16_faster {l : Launch} (hl : l.stackTraces = false) {G : gG} {a0 : Nat} {M : gM} {K : Int32 → gM → Prop} (hf : f_X16_faster a0 M K) : gMet l G yX16_faster (ws_ yX16_faster cX16_faster 1 (some Jvm.ClassFile.FieldType.int)) ({ frames := 0, cells := 0, slots := 0, locals := 0 }) M [.ref a0] (kI K) kN := by
  refine gm_of hl (ret := (some Jvm.ClassFile.FieldType.int)) rfl (Nat.le_of_ble_eq_true rfl) (fun X h hq => ?_)
  have h : hX l G X cX16_faster 1 "GlacierMail$Line" 0 0 := h
  have hf := hf
  show V l G X 0 0 M 0 [(0, .ref a0)] []
  unfold f_X16_faster at hf
  refine r_iconst (v := 0) h dX16_faster_0 (by decide) ?_
  exact r_ireturn h hq dX16_faster_1 ⟨_, rfl, hf⟩
def f_X17_faster (a0 : Nat) (M : gM) (K : Int32 → gM → Prop) : Prop :=
  kd M a0 = some (.inl 17) ∧ K (iv M a0 1) M
set_option maxHeartbeats 4000000 in
theorem m_X17_faster {l : Launch} (hl : l.stackTraces = false) {G : gG} {a0 : Nat} {M : gM} {K : Int32 → gM → Prop} (hf : f_X17_faster a0 M K) : gMet l G yX17_faster (ws_ yX17_faster cX17_faster 1 (some Jvm.ClassFile.FieldType.int)) ({ frames := 0, cells := 0, slots := 0, locals := 0 }) M [.ref a0] (kI K) kN := by
  refine gm_of hl (ret := (some Jvm.ClassFile.FieldType.int)) rfl (Nat.le_of_ble_eq_true rfl) (fun X h hq => ?_)
  have h : hX l G X cX17_faster 1 "GlacierMail$Fast" 0 0 := h
  have hf := hf
  show V l G X 0 0 M 0 [(0, .ref a0)] []
  unfold f_X17_faster at hf
  refine r_aload_n h 0 dX17_faster_0 rfl rfl ?_
  obtain ⟨k1, hf⟩ := hf
  refine g1121 h dX17_faster_1 k1 ?_
  exact r_ireturn h hq dX17_faster_4 ⟨_, rfl, hf⟩
def f_X16_opens (a0 : Nat) (M : gM) (K : Int32 → gM → Prop) : Prop :=
  K 0 M
set_option maxHeartbeats 4000000 in
theorem m_X16_opens {l : Launch} (hl : l.stackTraces = false) {G : gG} {a0 : Nat} {M : gM} {K : Int32 → gM → Prop} (hf : f_X16_opens a0 M K) : gMet l G yX16_opens (ws_ yX16_opens cX16_opens 1 (some Jvm.ClassFile.FieldType.boolean)) ({ frames := 0, cells := 0, slots := 0, locals := 0 }) M [.ref a0] (kI K) kN := by
  refine gm_of hl (ret := (some Jvm.ClassFile.FieldType.boolean)) rfl (Nat.le_of_ble_eq_true rfl) (fun X h hq => ?_)
  have h : hX l G X cX16_opens 1 "GlacierMail$Line" 0 0 := h
  have hf := hf
  show V l G X 0 0 M 0 [(0, .ref a0)] []
  unfold f_X16_opens at hf
  refine r_iconst (v := 0) h dX16_opens_0 (by decide) ?_
  exact r_zreturn h hq dX16_opens_1 (by decide) ⟨_, rfl, hf⟩
def f_X18_opens (a0 : Nat) (M : gM) (K : Int32 → gM → Prop) : Prop :=
  K 1 M
set_option maxHeartbeats 4000000 in
theorem m_X18_opens {l : Launch} (hl : l.stackTraces = false) {G : gG} {a0 : Nat} {M : gM} {K : Int32 → gM → Prop} (hf : f_X18_opens a0 M K) : gMet l G yX18_opens (ws_ yX18_opens cX18_opens 1 (some Jvm.ClassFile.FieldType.boolean)) ({ frames := 0, cells := 0, slots := 0, locals := 0 }) M [.ref a0] (kI K) kN := by
  refine gm_of hl (ret := (some Jvm.ClassFile.FieldType.boolean)) rfl (Nat.le_of_ble_eq_true rfl) (fun X h hq => ?_)
  have h : hX l G X cX18_opens 1 "GlacierMail$Opens" 0 0 := h
  have hf := hf
  show V l G X 0 0 M 0 [(0, .ref a0)] []
  unfold f_X18_opens at hf
  refine r_iconst (v := 1) h dX18_opens_0 (by decide) ?_
  exact r_zreturn h hq dX18_opens_1 (by decide) ⟨_, rfl, hf⟩
def f_is (a0 : Nat) (a1 : Nat) (M : gM) (K : Int32 → gM → Prop) : Prop := (kd M a0 = some (.inl 17) ∧ f_X16_is_17 a0 a1 M K) ∨ (kd M a0 = some (.inl 18) ∧ f_X16_is_18 a0 a1 M K)
theorem c678 {l : Launch} {G : gG} {X : gX} {cc : ByteArray} {nL F L bc bs pc : Nat} {M : gM} {lv : List (Nat × Value)} {rest : List Value} {a0 a1 : Nat} {K : Int32 → gM → Prop} (hl : l.stackTraces = false) (h : hX l G X cc nL "GlacierMail$State" F L) (d : decode cc pc = .ok (.invokevirtual 141, 3)) (hf : f_is a0 a1 M K) (hst : (rest.map fun v => v.category).sum ≤ 8) (hF : 25 ≤ F) (hL : 550 ≤ L) (kk : ∀ x M1, K x M1 → V l G X bc bs M1 (pc + 3) lv (.int x :: rest)) : V l G X bc bs M pc lv (.ref a1 :: .ref a0 :: rest) := by
  rcases hf with ⟨hk, hf⟩ | ⟨hk, hf⟩
  · exact r_callU (x := ⟨"GlacierMail$Line", "is", "([I)Z"⟩) (n := 1) (As := [.ref a1]) h (m_X16_is_17 hl hf) 17 rfl hk rfl ⟨by decide, by decide, by decide +kernel⟩ d q678 q680 q681 q679 q160 q683 rfl rfl hst (Nat.le_trans (by decide) hF) (Nat.le_trans (by decide) hL) (Nat.zero_le _) (Nat.zero_le _) (kI_go kk) kN_go
  · exact r_callU (x := ⟨"GlacierMail$Line", "is", "([I)Z"⟩) (n := 1) (As := [.ref a1]) h (m_X16_is_18 hl hf) 18 rfl hk rfl ⟨by decide, by decide, by decide +kernel⟩ d q678 q680 q682 q679 q160 q683 rfl rfl hst (Nat.le_trans (by decide) hF) (Nat.le_trans (by decide) hL) (Nat.zero_le _) (Nat.zero_le _) (kI_go kk) kN_go
def f_faster (a0 : Nat) (M : gM) (K : Int32 → gM → Prop) : Prop := (kd M a0 = some (.inl 17) ∧ f_X17_faster a0 M K) ∨ (kd M a0 = some (.inl 18) ∧ f_X16_faster a0 M K)
theorem c720 {l : Launch} {G : gG} {X : gX} {cc : ByteArray} {nL F L bc bs pc : Nat} {M : gM} {lv : List (Nat × Value)} {rest : List Value} {a0 : Nat} {K : Int32 → gM → Prop} (hl : l.stackTraces = false) (h : hX l G X cc nL "GlacierMail$State" F L) (d : decode cc pc = .ok (.invokevirtual 145, 3)) (hf : f_faster a0 M K) (hst : (rest.map fun v => v.category).sum ≤ 8) (hF : 1 ≤ F) (hL : 21 ≤ L) (kk : ∀ x M1, K x M1 → V l G X bc bs M1 (pc + 3) lv (.int x :: rest)) : V l G X bc bs M pc lv (.ref a0 :: rest) := by
  rcases hf with ⟨hk, hf⟩ | ⟨hk, hf⟩
  · exact r_callO (x := ⟨"GlacierMail$Line", "faster", "()I"⟩) (n := 0) (As := []) h (m_X17_faster hl hf) 17 rfl hk ⟨by decide, by decide, by decide +kernel⟩ d q720 q722 q721 q727 q723 q724 q161 q725 rfl rfl hst (Nat.le_trans (by decide) hF) (Nat.le_trans (by decide) hL) (Nat.zero_le _) (Nat.zero_le _) (kI_go kk) kN_go
  · exact r_callU (x := ⟨"GlacierMail$Line", "faster", "()I"⟩) (n := 0) (As := []) h (m_X16_faster hl hf) 18 rfl hk rfl ⟨by decide, by decide, by decide +kernel⟩ d q720 q722 q726 q721 q160 q727 rfl rfl hst (Nat.le_trans (by decide) hF) (Nat.le_trans (by decide) hL) (Nat.zero_le _) (Nat.zero_le _) (kI_go kk) kN_go
def f_opens (a0 : Nat) (M : gM) (K : Int32 → gM → Prop) : Prop := (kd M a0 = some (.inl 17) ∧ f_X16_opens a0 M K) ∨ (kd M a0 = some (.inl 18) ∧ f_X18_opens a0 M K)
theorem c1362 {l : Launch} {G : gG} {X : gX} {cc : ByteArray} {nL F L bc bs pc : Nat} {M : gM} {lv : List (Nat × Value)} {rest : List Value} {a0 : Nat} {K : Int32 → gM → Prop} (hl : l.stackTraces = false) (h : hX l G X cc nL "GlacierMail$State" F L) (d : decode cc pc = .ok (.invokevirtual 163, 3)) (hf : f_opens a0 M K) (hst : (rest.map fun v => v.category).sum ≤ 8) (hF : 1 ≤ F) (hL : 21 ≤ L) (kk : ∀ x M1, K x M1 → V l G X bc bs M1 (pc + 3) lv (.int x :: rest)) : V l G X bc bs M pc lv (.ref a0 :: rest) := by
  rcases hf with ⟨hk, hf⟩ | ⟨hk, hf⟩
  · exact r_callU (x := ⟨"GlacierMail$Line", "opens", "()Z"⟩) (n := 0) (As := []) h (m_X16_opens hl hf) 17 rfl hk rfl ⟨by decide, by decide, by decide +kernel⟩ d q1362 q1364 q1365 q1363 q160 q1369 rfl rfl hst (Nat.le_trans (by decide) hF) (Nat.le_trans (by decide) hL) (Nat.zero_le _) (Nat.zero_le _) (kI_go kk) kN_go
  · exact r_callO (x := ⟨"GlacierMail$Line", "opens", "()Z"⟩) (n := 0) (As := []) h (m_X18_opens hl hf) 18 rfl hk ⟨by decide, by decide, by decide +kernel⟩ d q1362 q1364 q1363 q1369 q1366 q1367 q162 q1368 rfl rfl hst (Nat.le_trans (by decide) hF) (Nat.le_trans (by decide) hL) (Nat.zero_le _) (Nat.zero_le _) (kI_go kk) kN_go
def f_X1_took (a0 : Nat) (M : gM) (K : Int32 → gM → Prop) : Prop :=
  kd M a0 = some (.inl 1) ∧ ∃ b2, rv M a0 0 = some b2 ∧ kd M b2 = some (.inl 2) ∧ ∃ b5, rv M a0 0 = some b5 ∧ kd M b5 = some (.inl 2) ∧ ∀ M8, M8 = sI M b5 6 0 → K (iv M b2 6) M8
set_option maxHeartbeats 4000000 in
theorem m_X1_took {l : Launch} (hl : l.stackTraces = false) {G : gG} {a0 : Nat} {M : gM} {K : Int32 → gM → Prop} (hf : f_X1_took a0 M K) : gMet l G yX1_took (ws_ yX1_took cX1_took 2 (some Jvm.ClassFile.FieldType.int)) ({ frames := 0, cells := 0, slots := 0, locals := 0 }) M [.ref a0] (kI K) kN := by
  refine gm_of hl (ret := (some Jvm.ClassFile.FieldType.int)) rfl (Nat.le_of_ble_eq_true rfl) (fun X h hq => ?_)
  have h : hX l G X cX1_took 2 "GlacierMail" 0 0 := h
  have hf := hf
  show V l G X 0 0 M 0 [(0, .ref a0)] []
  unfold f_X1_took at hf
  refine r_aload_n h 0 dX1_took_0 rfl rfl ?_
  obtain ⟨k1, hf⟩ := hf
  obtain ⟨b2, e3, hf⟩ := hf
  refine g572 h dX1_took_1 k1 e3 ?_
  obtain ⟨k4, hf⟩ := hf
  refine g515 h dX1_took_4 k4 ?_
  refine r_istore_n (lv' := [(1, .int (iv M b2 6)), (0, .ref a0)]) h dX1_took_7 rfl (by decide) rfl ?_
  refine r_aload_n h 1 dX1_took_8 rfl rfl ?_
  obtain ⟨b5, e6, hf⟩ := hf
  refine g572 h dX1_took_9 k1 e6 ?_
  refine r_iconst (v := 0) h dX1_took_12 (by decide) ?_
  obtain ⟨k7, hf⟩ := hf
  refine p515 h dX1_took_13 k7 ?_
  refine r_goW (fun M8 eM8 => ?_)
  have hf := hf M8 eM8
  refine r_iload_n h 0 dX1_took_16 rfl rfl ?_
  exact r_ireturn h hq dX1_took_17 ⟨_, rfl, hf⟩
theorem c829 {l : Launch} {G : gG} {X : gX} {cc : ByteArray} {nL F L bc bs pc : Nat} {M : gM} {lv : List (Nat × Value)} {rest : List Value} {a0 : Nat} {K : Int32 → gM → Prop} (hl : l.stackTraces = false) (h : hX l G X cc nL "GlacierMail" F L) (d : decode cc pc = .ok (.invokevirtual 130, 3)) (hk : kd M a0 = some (.inl 1)) (hf : f_X1_took a0 M K) (hst : (rest.map fun v => v.category).sum ≤ 8) (hF : 1 ≤ F) (hL : 21 ≤ L) (kk : ∀ x M1, K x M1 → V l G X bc bs M1 (pc + 3) lv (.int x :: rest)) : V l G X bc bs M pc lv (.ref a0 :: rest) := r_callV (n := 0) (As := []) h (m_X1_took hl hf) 1 rfl hk rfl ⟨by decide, by decide, by decide +kernel⟩ d q829 q831 qs8 q135 q832 rfl rfl hst hF hL (Nat.zero_le _) (Nat.zero_le _) (kI_go kk) kN_go
def f_X2_begins (a0 : Nat) (a1 : Int32) (a2 : Int32) (M : gM) (K : gM → Prop) : Prop :=
  kd M a0 = some (.inl 2) ∧ ∀ M2, M2 = sI M a0 7 a1 → kd M2 a0 = some (.inl 2) ∧ ∀ M4, M4 = sI M2 a0 8 0 → kd M4 a0 = some (.inl 2) ∧ ∀ M6, M6 = sI M4 a0 9 0 → kd M6 a0 = some (.inl 2) ∧ ∀ M8, M8 = sI M6 a0 10 a2 → K M8
set_option maxHeartbeats 4000000 in
theorem m_X2_begins {l : Launch} (hl : l.stackTraces = false) {G : gG} {a0 : Nat} {a1 : Int32} {a2 : Int32} {M : gM} {K : gM → Prop} (hf : f_X2_begins a0 a1 a2 M K) : gMet l G yX2_begins (ws_ yX2_begins cX2_begins 3 none) ({ frames := 0, cells := 0, slots := 0, locals := 0 }) M [.ref a0, .int a1, .int a2] (kV K) kN := by
  refine gm_of hl (ret := none) rfl (Nat.le_of_ble_eq_true rfl) (fun X h hq => ?_)
  have h : hX l G X cX2_begins 3 "GlacierMail$Reader" 0 0 := h
  have hf := hf
  show V l G X 0 0 M 0 [(0, .ref a0), (1, .int a1), (2, .int a2)] []
  unfold f_X2_begins at hf
  refine r_aload_n h 0 dX2_begins_0 rfl rfl ?_
  refine r_iload_n h 1 dX2_begins_1 rfl rfl ?_
  obtain ⟨k1, hf⟩ := hf
  refine p516 h dX2_begins_2 k1 ?_
  refine r_goW (fun M2 eM2 => ?_)
  have hf := hf M2 eM2
  refine r_aload_n h 0 dX2_begins_5 rfl rfl ?_
  refine r_iconst (v := 0) h dX2_begins_6 (by decide) ?_
  obtain ⟨k3, hf⟩ := hf
  refine p517 h dX2_begins_7 k3 ?_
  refine r_goW (fun M4 eM4 => ?_)
  have hf := hf M4 eM4
  refine r_aload_n h 0 dX2_begins_10 rfl rfl ?_
  refine r_iconst (v := 0) h dX2_begins_11 (by decide) ?_
  obtain ⟨k5, hf⟩ := hf
  refine p518 h dX2_begins_12 k5 ?_
  refine r_goW (fun M6 eM6 => ?_)
  have hf := hf M6 eM6
  refine r_aload_n h 0 dX2_begins_15 rfl rfl ?_
  refine r_iload_n h 2 dX2_begins_16 rfl rfl ?_
  obtain ⟨k7, hf⟩ := hf
  refine p519 h dX2_begins_17 k7 ?_
  refine r_goW (fun M8 eM8 => ?_)
  have hf := hf M8 eM8
  exact r_return h hq dX2_begins_20 ⟨rfl, hf⟩
theorem c837 {l : Launch} {G : gG} {X : gX} {cc : ByteArray} {nL F L bc bs pc : Nat} {M : gM} {lv : List (Nat × Value)} {rest : List Value} {a0 : Nat} {a1 : Int32} {a2 : Int32} {K : gM → Prop} (hl : l.stackTraces = false) (h : hX l G X cc nL "GlacierMail$Reader" F L) (d : decode cc pc = .ok (.invokevirtual 97, 3)) (hk : kd M a0 = some (.inl 2)) (hf : f_X2_begins a0 a1 a2 M K) (hst : (rest.map fun v => v.category).sum ≤ 8) (hF : 1 ≤ F) (hL : 22 ≤ L) (kk : ∀ M1, K M1 → V l G X bc bs M1 (pc + 3) lv rest) : V l G X bc bs M pc lv (.int a2 :: .int a1 :: .ref a0 :: rest) := r_callV (n := 2) (As := [.int a1, .int a2]) h (m_X2_begins hl hf) 2 rfl hk rfl ⟨by decide, by decide, by decide +kernel⟩ d q837 q839 qs9 q136 q840 rfl rfl hst hF hL (Nat.zero_le _) (Nat.zero_le _) (kV_go kk) kN_go
def f_X4_be (a0 : Nat) (a1 : Nat) (M : gM) (K : gM → Prop) : Prop :=
  kd M a1 = some (.inl 4) ∧ ∃ b2, rv M a1 0 = some b2 ∧ kd M a0 = some (.inl 4) ∧ ∃ b5, rv M a0 0 = some b5 ∧ okCI M b2 b5 6 ∧ ∀ M8, M8 = sCI M b5 (va_cpy (iv M b2) (iv M b5) 0 0 6) → kd M8 a1 = some (.inl 4) ∧ kd M8 a0 = some (.inl 4) ∧ ∀ M11, M11 = sI M8 a0 1 (iv M8 a1 1) → K M11
set_option maxHeartbeats 4000000 in
theorem m_X4_be {l : Launch} (hl : l.stackTraces = false) {G : gG} {a0 : Nat} {a1 : Nat} {M : gM} {K : gM → Prop} (hf : f_X4_be a0 a1 M K) : gMet l G yX4_be (ws_ yX4_be cX4_be 2 none) ({ frames := 1, cells := 0, slots := 0, locals := 100 }) M [.ref a0, .ref a1] (kV K) kN := by
  refine gm_of hl (ret := none) rfl (Nat.le_of_ble_eq_true rfl) (fun X h hq => ?_)
  have h : hX l G X cX4_be 2 "GlacierMail$Section" 1 100 := h
  have hf := hf
  show V l G X 0 0 M 0 [(0, .ref a0), (1, .ref a1)] []
  unfold f_X4_be at hf
  refine r_aload_n h 1 dX4_be_0 rfl rfl ?_
  obtain ⟨k1, hf⟩ := hf
  obtain ⟨b2, e3, hf⟩ := hf
  refine g217 h dX4_be_1 k1 e3 ?_
  refine r_iconst (v := 0) h dX4_be_4 (by decide) ?_
  refine r_aload_n h 0 dX4_be_5 rfl rfl ?_
  obtain ⟨k4, hf⟩ := hf
  obtain ⟨b5, e6, hf⟩ := hf
  refine g217 h dX4_be_6 k4 e6 ?_
  refine r_iconst (v := 0) h dX4_be_9 (by decide) ?_
  refine r_bipush (v := 6) h dX4_be_10 (by decide) ?_
  obtain ⟨j7, hf⟩ := hf
  refine r_copyi (n0 := 6) h q779 q781 q780 q148 dX4_be_12 (by decide) (by decide) (Nat.le_of_ble_eq_true rfl) (by decide) (by decide) j7 ?_
  refine r_goW (fun M8 eM8 => ?_)
  have hf := hf M8 eM8
  refine r_aload_n h 0 dX4_be_15 rfl rfl ?_
  refine r_aload_n h 1 dX4_be_16 rfl rfl ?_
  obtain ⟨k9, hf⟩ := hf
  refine g221 h dX4_be_17 k9 ?_
  obtain ⟨k10, hf⟩ := hf
  refine p221 h dX4_be_20 k10 ?_
  refine r_goW (fun M11 eM11 => ?_)
  have hf := hf M11 eM11
  exact r_return h hq dX4_be_23 ⟨rfl, hf⟩
theorem c775 {l : Launch} {G : gG} {X : gX} {cc : ByteArray} {nL F L bc bs pc : Nat} {M : gM} {lv : List (Nat × Value)} {rest : List Value} {a0 : Nat} {a1 : Nat} {K : gM → Prop} (hl : l.stackTraces = false) (h : hX l G X cc nL "GlacierMail$State" F L) (d : decode cc pc = .ok (.invokevirtual 86, 3)) (hk : kd M a0 = some (.inl 4)) (hf : f_X4_be a0 a1 M K) (hst : (rest.map fun v => v.category).sum ≤ 8) (hF : 2 ≤ F) (hL : 121 ≤ L) (kk : ∀ M1, K M1 → V l G X bc bs M1 (pc + 3) lv rest) : V l G X bc bs M pc lv (.ref a1 :: .ref a0 :: rest) := r_callV (n := 1) (As := [.ref a1]) h (m_X4_be hl hf) 4 rfl hk rfl ⟨by decide, by decide, by decide +kernel⟩ d q775 q776 q777 q138 q778 rfl rfl hst hF hL (Nat.zero_le _) (Nat.zero_le _) (kV_go kk) kN_go
def f_X5_be (a0 : Nat) (a1 : Nat) (M : gM) (K : gM → Prop) : Prop :=
  kd M a1 = some (.inl 5) ∧ kd M a0 = some (.inl 5) ∧ ∀ M3, M3 = sI M a0 0 (iv M a1 0) → kd M3 a1 = some (.inl 5) ∧ kd M3 a0 = some (.inl 5) ∧ ∀ M6, M6 = sI M3 a0 1 (iv M3 a1 1) → kd M6 a1 = some (.inl 5) ∧ kd M6 a0 = some (.inl 5) ∧ ∀ M9, M9 = sI M6 a0 2 (iv M6 a1 2) → K M9
set_option maxHeartbeats 4000000 in
theorem m_X5_be {l : Launch} (hl : l.stackTraces = false) {G : gG} {a0 : Nat} {a1 : Nat} {M : gM} {K : gM → Prop} (hf : f_X5_be a0 a1 M K) : gMet l G yX5_be (ws_ yX5_be cX5_be 2 none) ({ frames := 0, cells := 0, slots := 0, locals := 0 }) M [.ref a0, .ref a1] (kV K) kN := by
  refine gm_of hl (ret := none) rfl (Nat.le_of_ble_eq_true rfl) (fun X h hq => ?_)
  have h : hX l G X cX5_be 2 "GlacierMail$Flood" 0 0 := h
  have hf := hf
  show V l G X 0 0 M 0 [(0, .ref a0), (1, .ref a1)] []
  unfold f_X5_be at hf
  refine r_aload_n h 0 dX5_be_0 rfl rfl ?_
  refine r_aload_n h 1 dX5_be_1 rfl rfl ?_
  obtain ⟨k1, hf⟩ := hf
  refine g236 h dX5_be_2 k1 ?_
  obtain ⟨k2, hf⟩ := hf
  refine p236 h dX5_be_5 k2 ?_
  refine r_goW (fun M3 eM3 => ?_)
  have hf := hf M3 eM3
  refine r_aload_n h 0 dX5_be_8 rfl rfl ?_
  refine r_aload_n h 1 dX5_be_9 rfl rfl ?_
  obtain ⟨k4, hf⟩ := hf
  refine g240 h dX5_be_10 k4 ?_
  obtain ⟨k5, hf⟩ := hf
  refine p240 h dX5_be_13 k5 ?_
  refine r_goW (fun M6 eM6 => ?_)
  have hf := hf M6 eM6
  refine r_aload_n h 0 dX5_be_16 rfl rfl ?_
  refine r_aload_n h 1 dX5_be_17 rfl rfl ?_
  obtain ⟨k7, hf⟩ := hf
  refine g243 h dX5_be_18 k7 ?_
  obtain ⟨k8, hf⟩ := hf
  refine p243 h dX5_be_21 k8 ?_
  refine r_goW (fun M9 eM9 => ?_)
  have hf := hf M9 eM9
  exact r_return h hq dX5_be_24 ⟨rfl, hf⟩
theorem c782 {l : Launch} {G : gG} {X : gX} {cc : ByteArray} {nL F L bc bs pc : Nat} {M : gM} {lv : List (Nat × Value)} {rest : List Value} {a0 : Nat} {a1 : Nat} {K : gM → Prop} (hl : l.stackTraces = false) (h : hX l G X cc nL "GlacierMail$State" F L) (d : decode cc pc = .ok (.invokevirtual 93, 3)) (hk : kd M a0 = some (.inl 5)) (hf : f_X5_be a0 a1 M K) (hst : (rest.map fun v => v.category).sum ≤ 8) (hF : 1 ≤ F) (hL : 21 ≤ L) (kk : ∀ M1, K M1 → V l G X bc bs M1 (pc + 3) lv rest) : V l G X bc bs M pc lv (.ref a1 :: .ref a0 :: rest) := r_callV (n := 1) (As := [.ref a1]) h (m_X5_be hl hf) 5 rfl hk rfl ⟨by decide, by decide, by decide +kernel⟩ d q782 q783 q784 q139 q785 rfl rfl hst hF hL (Nat.zero_le _) (Nat.zero_le _) (kV_go kk) kN_go
def f_X6_be (a0 : Nat) (a1 : Nat) (M : gM) (K : gM → Prop) : Prop :=
  kd M a1 = some (.inl 6) ∧ kd M a0 = some (.inl 6) ∧ ∀ M3, M3 = sI M a0 0 (iv M a1 0) → kd M3 a1 = some (.inl 6) ∧ kd M3 a0 = some (.inl 6) ∧ ∀ M6, M6 = sI M3 a0 1 (iv M3 a1 1) → kd M6 a1 = some (.inl 6) ∧ kd M6 a0 = some (.inl 6) ∧ ∀ M9, M9 = sI M6 a0 2 (iv M6 a1 2) → K M9
set_option maxHeartbeats 4000000 in
theorem m_X6_be {l : Launch} (hl : l.stackTraces = false) {G : gG} {a0 : Nat} {a1 : Nat} {M : gM} {K : gM → Prop} (hf : f_X6_be a0 a1 M K) : gMet l G yX6_be (ws_ yX6_be cX6_be 2 none) ({ frames := 0, cells := 0, slots := 0, locals := 0 }) M [.ref a0, .ref a1] (kV K) kN := by
  refine gm_of hl (ret := none) rfl (Nat.le_of_ble_eq_true rfl) (fun X h hq => ?_)
  have h : hX l G X cX6_be 2 "GlacierMail$Person" 0 0 := h
  have hf := hf
  show V l G X 0 0 M 0 [(0, .ref a0), (1, .ref a1)] []
  unfold f_X6_be at hf
  refine r_aload_n h 0 dX6_be_0 rfl rfl ?_
  refine r_aload_n h 1 dX6_be_1 rfl rfl ?_
  obtain ⟨k1, hf⟩ := hf
  refine g258 h dX6_be_2 k1 ?_
  obtain ⟨k2, hf⟩ := hf
  refine p258 h dX6_be_5 k2 ?_
  refine r_goW (fun M3 eM3 => ?_)
  have hf := hf M3 eM3
  refine r_aload_n h 0 dX6_be_8 rfl rfl ?_
  refine r_aload_n h 1 dX6_be_9 rfl rfl ?_
  obtain ⟨k4, hf⟩ := hf
  refine g261 h dX6_be_10 k4 ?_
  obtain ⟨k5, hf⟩ := hf
  refine p261 h dX6_be_13 k5 ?_
  refine r_goW (fun M6 eM6 => ?_)
  have hf := hf M6 eM6
  refine r_aload_n h 0 dX6_be_16 rfl rfl ?_
  refine r_aload_n h 1 dX6_be_17 rfl rfl ?_
  obtain ⟨k7, hf⟩ := hf
  refine g264 h dX6_be_18 k7 ?_
  obtain ⟨k8, hf⟩ := hf
  refine p264 h dX6_be_21 k8 ?_
  refine r_goW (fun M9 eM9 => ?_)
  have hf := hf M9 eM9
  exact r_return h hq dX6_be_24 ⟨rfl, hf⟩
theorem c786 {l : Launch} {G : gG} {X : gX} {cc : ByteArray} {nL F L bc bs pc : Nat} {M : gM} {lv : List (Nat × Value)} {rest : List Value} {a0 : Nat} {a1 : Nat} {K : gM → Prop} (hl : l.stackTraces = false) (h : hX l G X cc nL "GlacierMail$State" F L) (d : decode cc pc = .ok (.invokevirtual 99, 3)) (hk : kd M a0 = some (.inl 6)) (hf : f_X6_be a0 a1 M K) (hst : (rest.map fun v => v.category).sum ≤ 8) (hF : 1 ≤ F) (hL : 21 ≤ L) (kk : ∀ M1, K M1 → V l G X bc bs M1 (pc + 3) lv rest) : V l G X bc bs M pc lv (.ref a1 :: .ref a0 :: rest) := r_callV (n := 1) (As := [.ref a1]) h (m_X6_be hl hf) 6 rfl hk rfl ⟨by decide, by decide, by decide +kernel⟩ d q786 q787 q788 q140 q789 rfl rfl hst hF hL (Nat.zero_le _) (Nat.zero_le _) (kV_go kk) kN_go
def f_X7_be (a0 : Nat) (a1 : Nat) (M : gM) (K : gM → Prop) : Prop :=
  kd M a1 = some (.inl 7) ∧ kd M a0 = some (.inl 7) ∧ ∀ M3, M3 = sI M a0 0 (iv M a1 0) → kd M3 a1 = some (.inl 7) ∧ kd M3 a0 = some (.inl 7) ∧ ∀ M6, M6 = sI M3 a0 1 (iv M3 a1 1) → kd M6 a1 = some (.inl 7) ∧ kd M6 a0 = some (.inl 7) ∧ ∀ M9, M9 = sI M6 a0 2 (iv M6 a1 2) → kd M9 a1 = some (.inl 7) ∧ kd M9 a0 = some (.inl 7) ∧ ∀ M12, M12 = sI M9 a0 3 (iv M9 a1 3) → kd M12 a1 = some (.inl 7) ∧ kd M12 a0 = some (.inl 7) ∧ ∀ M15, M15 = sI M12 a0 4 (iv M12 a1 4) → kd M15 a1 = some (.inl 7) ∧ kd M15 a0 = some (.inl 7) ∧ ∀ M18, M18 = sI M15 a0 5 (iv M15 a1 5) → kd M18 a1 = some (.inl 7) ∧ kd M18 a0 = some (.inl 7) ∧ ∀ M21, M21 = sI M18 a0 6 (iv M18 a1 6) → K M21
set_option maxHeartbeats 4000000 in
theorem m_X7_be {l : Launch} (hl : l.stackTraces = false) {G : gG} {a0 : Nat} {a1 : Nat} {M : gM} {K : gM → Prop} (hf : f_X7_be a0 a1 M K) : gMet l G yX7_be (ws_ yX7_be cX7_be 2 none) ({ frames := 0, cells := 0, slots := 0, locals := 0 }) M [.ref a0, .ref a1] (kV K) kN := by
  refine gm_of hl (ret := none) rfl (Nat.le_of_ble_eq_true rfl) (fun X h hq => ?_)
  have h : hX l G X cX7_be 2 "GlacierMail$Letter" 0 0 := h
  have hf := hf
  show V l G X 0 0 M 0 [(0, .ref a0), (1, .ref a1)] []
  unfold f_X7_be at hf
  refine r_aload_n h 0 dX7_be_0 rfl rfl ?_
  refine r_aload_n h 1 dX7_be_1 rfl rfl ?_
  obtain ⟨k1, hf⟩ := hf
  refine g279 h dX7_be_2 k1 ?_
  obtain ⟨k2, hf⟩ := hf
  refine p279 h dX7_be_5 k2 ?_
  refine r_goW (fun M3 eM3 => ?_)
  have hf := hf M3 eM3
  refine r_aload_n h 0 dX7_be_8 rfl rfl ?_
  refine r_aload_n h 1 dX7_be_9 rfl rfl ?_
  obtain ⟨k4, hf⟩ := hf
  refine g281 h dX7_be_10 k4 ?_
  obtain ⟨k5, hf⟩ := hf
  refine p281 h dX7_be_13 k5 ?_
  refine r_goW (fun M6 eM6 => ?_)
  have hf := hf M6 eM6
  refine r_aload_n h 0 dX7_be_16 rfl rfl ?_
  refine r_aload_n h 1 dX7_be_17 rfl rfl ?_
  obtain ⟨k7, hf⟩ := hf
  refine g283 h dX7_be_18 k7 ?_
  obtain ⟨k8, hf⟩ := hf
  refine p283 h dX7_be_21 k8 ?_
  refine r_goW (fun M9 eM9 => ?_)
  have hf := hf M9 eM9
  refine r_aload_n h 0 dX7_be_24 rfl rfl ?_
  refine r_aload_n h 1 dX7_be_25 rfl rfl ?_
  obtain ⟨k10, hf⟩ := hf
  refine g287 h dX7_be_26 k10 ?_
  obtain ⟨k11, hf⟩ := hf
  refine p287 h dX7_be_29 k11 ?_
  refine r_goW (fun M12 eM12 => ?_)
  have hf := hf M12 eM12
  refine r_aload_n h 0 dX7_be_32 rfl rfl ?_
  refine r_aload_n h 1 dX7_be_33 rfl rfl ?_
  obtain ⟨k13, hf⟩ := hf
  refine g290 h dX7_be_34 k13 ?_
  obtain ⟨k14, hf⟩ := hf
  refine p290 h dX7_be_37 k14 ?_
  refine r_goW (fun M15 eM15 => ?_)
  have hf := hf M15 eM15
  refine r_aload_n h 0 dX7_be_40 rfl rfl ?_
  refine r_aload_n h 1 dX7_be_41 rfl rfl ?_
  obtain ⟨k16, hf⟩ := hf
  refine g294 h dX7_be_42 k16 ?_
  obtain ⟨k17, hf⟩ := hf
  refine p294 h dX7_be_45 k17 ?_
  refine r_goW (fun M18 eM18 => ?_)
  have hf := hf M18 eM18
  refine r_aload_n h 0 dX7_be_48 rfl rfl ?_
  refine r_aload_n h 1 dX7_be_49 rfl rfl ?_
  obtain ⟨k19, hf⟩ := hf
  refine g297 h dX7_be_50 k19 ?_
  obtain ⟨k20, hf⟩ := hf
  refine p297 h dX7_be_53 k20 ?_
  refine r_goW (fun M21 eM21 => ?_)
  have hf := hf M21 eM21
  exact r_return h hq dX7_be_56 ⟨rfl, hf⟩
theorem c790 {l : Launch} {G : gG} {X : gX} {cc : ByteArray} {nL F L bc bs pc : Nat} {M : gM} {lv : List (Nat × Value)} {rest : List Value} {a0 : Nat} {a1 : Nat} {K : gM → Prop} (hl : l.stackTraces = false) (h : hX l G X cc nL "GlacierMail$State" F L) (d : decode cc pc = .ok (.invokevirtual 105, 3)) (hk : kd M a0 = some (.inl 7)) (hf : f_X7_be a0 a1 M K) (hst : (rest.map fun v => v.category).sum ≤ 8) (hF : 1 ≤ F) (hL : 21 ≤ L) (kk : ∀ M1, K M1 → V l G X bc bs M1 (pc + 3) lv rest) : V l G X bc bs M pc lv (.ref a1 :: .ref a0 :: rest) := r_callV (n := 1) (As := [.ref a1]) h (m_X7_be hl hf) 7 rfl hk rfl ⟨by decide, by decide, by decide +kernel⟩ d q790 q791 q792 q141 q793 rfl rfl hst hF hL (Nat.zero_le _) (Nat.zero_le _) (kV_go kk) kN_go
def f_X3_be (a0 : Nat) (a1 : Nat) (M : gM) (K : gM → Prop) : Prop :=
  ∀ P2 : Nat → Nat → Int32 → gM → Prop,
  ∀ P33 : Nat → Nat → Int32 → gM → Prop,
  ∀ P64 : Nat → Nat → Int32 → gM → Prop,
  ∀ P95 : Nat → Nat → Int32 → gM → Prop,
  ∀ P126 : Nat → Nat → Int32 → gM → Prop,
  (∀ (v0 : Nat) (v1 : Nat) (v2 : Int32) (M : gM), (kd M v1 = some (.inl 3) ∧ if (iv M v1 11) ≤ v2 then P33 v0 v1 0 M else kd M v0 = some (.inl 3) ∧ ∃ b4, rv M v0 0 = some b4 ∧ inA M b4 5 v2 ∧ ∃ b7, rv M b4 (ix v2) = some b7 ∧ ∃ b9, rv M v1 0 = some b9 ∧ inA M b9 5 v2 ∧ ∃ b12, rv M b9 (ix v2) = some b12 ∧ kd M b7 = some (.inl 4) ∧ f_X4_be b7 b12 M (fun M15 => P2 v0 v1 (v2 + 1) M15)) → P2 v0 v1 v2 M) →
  (∀ (v0 : Nat) (v1 : Nat) (v2 : Int32) (M : gM), (kd M v1 = some (.inl 3) ∧ if (iv M v1 12) ≤ v2 then P64 v0 v1 0 M else kd M v0 = some (.inl 3) ∧ ∃ b19, rv M v0 1 = some b19 ∧ inA M b19 6 v2 ∧ ∃ b22, rv M b19 (ix v2) = some b22 ∧ ∃ b24, rv M v1 1 = some b24 ∧ inA M b24 6 v2 ∧ ∃ b27, rv M b24 (ix v2) = some b27 ∧ kd M b22 = some (.inl 5) ∧ f_X5_be b22 b27 M (fun M30 => P33 v0 v1 (v2 + 1) M30)) → P33 v0 v1 v2 M) →
  (∀ (v0 : Nat) (v1 : Nat) (v2 : Int32) (M : gM), (kd M v1 = some (.inl 3) ∧ if (iv M v1 13) ≤ v2 then P95 v0 v1 0 M else kd M v0 = some (.inl 3) ∧ ∃ b34, rv M v0 2 = some b34 ∧ inA M b34 7 v2 ∧ ∃ b37, rv M b34 (ix v2) = some b37 ∧ ∃ b39, rv M v1 2 = some b39 ∧ inA M b39 7 v2 ∧ ∃ b42, rv M b39 (ix v2) = some b42 ∧ kd M b37 = some (.inl 6) ∧ f_X6_be b37 b42 M (fun M45 => P64 v0 v1 (v2 + 1) M45)) → P64 v0 v1 v2 M) →
  (∀ (v0 : Nat) (v1 : Nat) (v2 : Int32) (M : gM), (kd M v1 = some (.inl 3) ∧ if (iv M v1 14) ≤ v2 then P126 v0 v1 0 M else kd M v0 = some (.inl 3) ∧ ∃ b49, rv M v0 3 = some b49 ∧ inA M b49 8 v2 ∧ ∃ b52, rv M b49 (ix v2) = some b52 ∧ ∃ b54, rv M v1 3 = some b54 ∧ inA M b54 8 v2 ∧ ∃ b57, rv M b54 (ix v2) = some b57 ∧ kd M b52 = some (.inl 7) ∧ f_X7_be b52 b57 M (fun M60 => P95 v0 v1 (v2 + 1) M60)) → P95 v0 v1 v2 M) →
  (∀ (v0 : Nat) (v1 : Nat) (v2 : Int32) (M : gM), (kd M v1 = some (.inl 3) ∧ if (iv M v1 15) ≤ v2 then ∃ b63, rv M v1 5 = some b63 ∧ kd M v0 = some (.inl 3) ∧ ∃ b66, rv M v0 5 = some b66 ∧ okCR M b63 b66 12 ∧ ∀ M69, M69 = sCR M b66 (va_cpy (rv M b63) (rv M b66) 0 0 12) → kd M69 v1 = some (.inl 3) ∧ ∃ b71, rv M69 v1 6 = some b71 ∧ kd M69 v0 = some (.inl 3) ∧ ∃ b74, rv M69 v0 6 = some b74 ∧ okCI M69 b71 b74 72 ∧ ∀ M77, M77 = sCI M69 b74 (va_cpy (iv M69 b71) (iv M69 b74) 0 0 72) → kd M77 v1 = some (.inl 3) ∧ ∃ b79, rv M77 v1 7 = some b79 ∧ kd M77 v0 = some (.inl 3) ∧ ∃ b82, rv M77 v0 7 = some b82 ∧ okCI M77 b79 b82 300 ∧ ∀ M85, M85 = sCI M77 b82 (va_cpy (iv M77 b79) (iv M77 b82) 0 0 300) → kd M85 v1 = some (.inl 3) ∧ kd M85 v0 = some (.inl 3) ∧ ∀ M88, M88 = sI M85 v0 9 (iv M85 v1 9) → kd M88 v1 = some (.inl 3) ∧ kd M88 v0 = some (.inl 3) ∧ ∀ M91, M91 = sI M88 v0 10 (iv M88 v1 10) → kd M91 v1 = some (.inl 3) ∧ kd M91 v0 = some (.inl 3) ∧ ∀ M94, M94 = sI M91 v0 11 (iv M91 v1 11) → kd M94 v1 = some (.inl 3) ∧ kd M94 v0 = some (.inl 3) ∧ ∀ M97, M97 = sI M94 v0 12 (iv M94 v1 12) → kd M97 v1 = some (.inl 3) ∧ kd M97 v0 = some (.inl 3) ∧ ∀ M100, M100 = sI M97 v0 13 (iv M97 v1 13) → kd M100 v1 = some (.inl 3) ∧ kd M100 v0 = some (.inl 3) ∧ ∀ M103, M103 = sI M100 v0 14 (iv M100 v1 14) → kd M103 v1 = some (.inl 3) ∧ kd M103 v0 = some (.inl 3) ∧ ∀ M106, M106 = sI M103 v0 15 (iv M103 v1 15) → kd M106 v1 = some (.inl 3) ∧ kd M106 v0 = some (.inl 3) ∧ ∀ M109, M109 = sI M106 v0 16 (iv M106 v1 16) → kd M109 v1 = some (.inl 3) ∧ kd M109 v0 = some (.inl 3) ∧ ∀ M112, M112 = sI M109 v0 17 (iv M109 v1 17) → kd M112 v1 = some (.inl 3) ∧ kd M112 v0 = some (.inl 3) ∧ ∀ M115, M115 = sI M112 v0 18 (iv M112 v1 18) → kd M115 v1 = some (.inl 3) ∧ kd M115 v0 = some (.inl 3) ∧ ∀ M118, M118 = sI M115 v0 19 (iv M115 v1 19) → kd M118 v1 = some (.inl 3) ∧ kd M118 v0 = some (.inl 3) ∧ ∀ M121, M121 = sI M118 v0 20 (iv M118 v1 20) → kd M121 v1 = some (.inl 3) ∧ kd M121 v0 = some (.inl 3) ∧ ∀ M124, M124 = sI M121 v0 21 (iv M121 v1 21) → kd M124 v1 = some (.inl 3) ∧ kd M124 v0 = some (.inl 3) ∧ ∀ M127, M127 = sI M124 v0 22 (iv M124 v1 22) → kd M127 v1 = some (.inl 3) ∧ kd M127 v0 = some (.inl 3) ∧ ∀ M130, M130 = sI M127 v0 23 (iv M127 v1 23) → K M130 else kd M v0 = some (.inl 3) ∧ ∃ b132, rv M v0 4 = some b132 ∧ inA M b132 5 v2 ∧ ∃ b135, rv M b132 (ix v2) = some b135 ∧ ∃ b137, rv M v1 4 = some b137 ∧ inA M b137 5 v2 ∧ ∃ b140, rv M b137 (ix v2) = some b140 ∧ kd M b135 = some (.inl 4) ∧ f_X4_be b135 b140 M (fun M143 => P126 v0 v1 (v2 + 1) M143)) → P126 v0 v1 v2 M) →
  P2 a0 a1 0 M
set_option maxHeartbeats 4000000 in
theorem m_X3_be {l : Launch} (hl : l.stackTraces = false) {G : gG} {a0 : Nat} {a1 : Nat} {M : gM} {K : gM → Prop} (hf : f_X3_be a0 a1 M K) : gMet l G yX3_be (ws_ yX3_be cX3_be 3 none) ({ frames := 2, cells := 0, slots := 0, locals := 121 }) M [.ref a0, .ref a1] (kV K) kN := by
  refine gm_of hl (ret := none) rfl (Nat.le_of_ble_eq_true rfl) (fun X h hq => ?_)
  have h : hX l G X cX3_be 3 "GlacierMail$State" 2 121 := h
  have hf := hf
  show V l G X 0 0 M 0 [(0, .ref a0), (1, .ref a1)] []
  have hf := hf
    (fun v0 v1 v2 M => V l G X 0 0 M 2 [(0, .ref v0), (1, .ref v1), (2, .int v2)] [])
    (fun v0 v1 v2 M => V l G X 0 0 M 33 [(0, .ref v0), (1, .ref v1), (2, .int v2)] [])
    (fun v0 v1 v2 M => V l G X 0 0 M 64 [(0, .ref v0), (1, .ref v1), (2, .int v2)] [])
    (fun v0 v1 v2 M => V l G X 0 0 M 95 [(0, .ref v0), (1, .ref v1), (2, .int v2)] [])
    (fun v0 v1 v2 M => V l G X 0 0 M 126 [(0, .ref v0), (1, .ref v1), (2, .int v2)] [])
    (by
      intro v0 v1 v2 M hf
      show V l G X 0 0 M 2 [(0, .ref v0), (1, .ref v1), (2, .int v2)] []
      refine r_iload_n h 2 dX3_be_2 rfl rfl ?_
      refine r_aload_n h 1 dX3_be_3 rfl rfl ?_
      obtain ⟨k1, hf⟩ := hf
      refine g348 h dX3_be_4 k1 ?_
      refine r_icmp_ge (tgt := 31) h dX3_be_7 (by decide) (fun c2 => ?_) (fun c2 => ?_)
      · have hf := ite_t c2 hf
        refine r_iconst (v := 0) h dX3_be_31 (by decide) ?_
        refine r_istore_n (lv' := [(2, .int 0), (0, .ref v0), (1, .ref v1)]) h dX3_be_32 rfl (by decide) rfl ?_
        exact V.sub [1, 2, 0] rfl hf
      · have hf := ite_f c2 hf
        refine r_aload_n h 0 dX3_be_10 rfl rfl ?_
        obtain ⟨k3, hf⟩ := hf
        obtain ⟨b4, e5, hf⟩ := hf
        refine g320 h dX3_be_11 k3 e5 ?_
        refine r_iload_n h 2 dX3_be_14 rfl rfl ?_
        obtain ⟨j6, b7, e8, hf⟩ := hf
        refine r_aaload h 5 (by decide) (by decide) dX3_be_15 j6 (v := .ref b7) (by rw [e8]; rfl) ?_
        refine r_aload_n h 1 dX3_be_16 rfl rfl ?_
        obtain ⟨b9, e10, hf⟩ := hf
        refine g320 h dX3_be_17 k1 e10 ?_
        refine r_iload_n h 2 dX3_be_20 rfl rfl ?_
        obtain ⟨j11, b12, e13, hf⟩ := hf
        refine r_aaload h 5 (by decide) (by decide) dX3_be_21 j11 (v := .ref b12) (by rw [e13]; rfl) ?_
        obtain ⟨k14, hf⟩ := hf
        refine c775 hl h dX3_be_22 k14 hf (Nat.le_of_ble_eq_true rfl) (by decide) (by decide) (fun M15 hf => ?_)
        refine r_iinc (v := v2 + 1) (lv' := [(2, .int (v2 + 1)), (0, .ref v0), (1, .ref v1)]) h 2 dX3_be_25 rfl rfl (by decide) rfl ?_
        refine r_goto (tgt := 2) h dX3_be_28 (by decide) ?_
        exact V.sub [1, 2, 0] rfl hf)
    (by
      intro v0 v1 v2 M hf
      show V l G X 0 0 M 33 [(0, .ref v0), (1, .ref v1), (2, .int v2)] []
      refine r_iload_n h 2 dX3_be_33 rfl rfl ?_
      refine r_aload_n h 1 dX3_be_34 rfl rfl ?_
      obtain ⟨k16, hf⟩ := hf
      refine g351 h dX3_be_35 k16 ?_
      refine r_icmp_ge (tgt := 62) h dX3_be_38 (by decide) (fun c17 => ?_) (fun c17 => ?_)
      · have hf := ite_t c17 hf
        refine r_iconst (v := 0) h dX3_be_62 (by decide) ?_
        refine r_istore_n (lv' := [(2, .int 0), (0, .ref v0), (1, .ref v1)]) h dX3_be_63 rfl (by decide) rfl ?_
        exact V.sub [1, 2, 0] rfl hf
      · have hf := ite_f c17 hf
        refine r_aload_n h 0 dX3_be_41 rfl rfl ?_
        obtain ⟨k18, hf⟩ := hf
        obtain ⟨b19, e20, hf⟩ := hf
        refine g322 h dX3_be_42 k18 e20 ?_
        refine r_iload_n h 2 dX3_be_45 rfl rfl ?_
        obtain ⟨j21, b22, e23, hf⟩ := hf
        refine r_aaload h 6 (by decide) (by decide) dX3_be_46 j21 (v := .ref b22) (by rw [e23]; rfl) ?_
        refine r_aload_n h 1 dX3_be_47 rfl rfl ?_
        obtain ⟨b24, e25, hf⟩ := hf
        refine g322 h dX3_be_48 k16 e25 ?_
        refine r_iload_n h 2 dX3_be_51 rfl rfl ?_
        obtain ⟨j26, b27, e28, hf⟩ := hf
        refine r_aaload h 6 (by decide) (by decide) dX3_be_52 j26 (v := .ref b27) (by rw [e28]; rfl) ?_
        obtain ⟨k29, hf⟩ := hf
        refine c782 hl h dX3_be_53 k29 hf (Nat.le_of_ble_eq_true rfl) (by decide) (by decide) (fun M30 hf => ?_)
        refine r_iinc (v := v2 + 1) (lv' := [(2, .int (v2 + 1)), (0, .ref v0), (1, .ref v1)]) h 2 dX3_be_56 rfl rfl (by decide) rfl ?_
        refine r_goto (tgt := 33) h dX3_be_59 (by decide) ?_
        exact V.sub [1, 2, 0] rfl hf)
    (by
      intro v0 v1 v2 M hf
      show V l G X 0 0 M 64 [(0, .ref v0), (1, .ref v1), (2, .int v2)] []
      refine r_iload_n h 2 dX3_be_64 rfl rfl ?_
      refine r_aload_n h 1 dX3_be_65 rfl rfl ?_
      obtain ⟨k31, hf⟩ := hf
      refine g354 h dX3_be_66 k31 ?_
      refine r_icmp_ge (tgt := 93) h dX3_be_69 (by decide) (fun c32 => ?_) (fun c32 => ?_)
      · have hf := ite_t c32 hf
        refine r_iconst (v := 0) h dX3_be_93 (by decide) ?_
        refine r_istore_n (lv' := [(2, .int 0), (0, .ref v0), (1, .ref v1)]) h dX3_be_94 rfl (by decide) rfl ?_
        exact V.sub [1, 2, 0] rfl hf
      · have hf := ite_f c32 hf
        refine r_aload_n h 0 dX3_be_72 rfl rfl ?_
        obtain ⟨k33, hf⟩ := hf
        obtain ⟨b34, e35, hf⟩ := hf
        refine g325 h dX3_be_73 k33 e35 ?_
        refine r_iload_n h 2 dX3_be_76 rfl rfl ?_
        obtain ⟨j36, b37, e38, hf⟩ := hf
        refine r_aaload h 7 (by decide) (by decide) dX3_be_77 j36 (v := .ref b37) (by rw [e38]; rfl) ?_
        refine r_aload_n h 1 dX3_be_78 rfl rfl ?_
        obtain ⟨b39, e40, hf⟩ := hf
        refine g325 h dX3_be_79 k31 e40 ?_
        refine r_iload_n h 2 dX3_be_82 rfl rfl ?_
        obtain ⟨j41, b42, e43, hf⟩ := hf
        refine r_aaload h 7 (by decide) (by decide) dX3_be_83 j41 (v := .ref b42) (by rw [e43]; rfl) ?_
        obtain ⟨k44, hf⟩ := hf
        refine c786 hl h dX3_be_84 k44 hf (Nat.le_of_ble_eq_true rfl) (by decide) (by decide) (fun M45 hf => ?_)
        refine r_iinc (v := v2 + 1) (lv' := [(2, .int (v2 + 1)), (0, .ref v0), (1, .ref v1)]) h 2 dX3_be_87 rfl rfl (by decide) rfl ?_
        refine r_goto (tgt := 64) h dX3_be_90 (by decide) ?_
        exact V.sub [1, 2, 0] rfl hf)
    (by
      intro v0 v1 v2 M hf
      show V l G X 0 0 M 95 [(0, .ref v0), (1, .ref v1), (2, .int v2)] []
      refine r_iload_n h 2 dX3_be_95 rfl rfl ?_
      refine r_aload_n h 1 dX3_be_96 rfl rfl ?_
      obtain ⟨k46, hf⟩ := hf
      refine g357 h dX3_be_97 k46 ?_
      refine r_icmp_ge (tgt := 124) h dX3_be_100 (by decide) (fun c47 => ?_) (fun c47 => ?_)
      · have hf := ite_t c47 hf
        refine r_iconst (v := 0) h dX3_be_124 (by decide) ?_
        refine r_istore_n (lv' := [(2, .int 0), (0, .ref v0), (1, .ref v1)]) h dX3_be_125 rfl (by decide) rfl ?_
        exact V.sub [1, 2, 0] rfl hf
      · have hf := ite_f c47 hf
        refine r_aload_n h 0 dX3_be_103 rfl rfl ?_
        obtain ⟨k48, hf⟩ := hf
        obtain ⟨b49, e50, hf⟩ := hf
        refine g328 h dX3_be_104 k48 e50 ?_
        refine r_iload_n h 2 dX3_be_107 rfl rfl ?_
        obtain ⟨j51, b52, e53, hf⟩ := hf
        refine r_aaload h 8 (by decide) (by decide) dX3_be_108 j51 (v := .ref b52) (by rw [e53]; rfl) ?_
        refine r_aload_n h 1 dX3_be_109 rfl rfl ?_
        obtain ⟨b54, e55, hf⟩ := hf
        refine g328 h dX3_be_110 k46 e55 ?_
        refine r_iload_n h 2 dX3_be_113 rfl rfl ?_
        obtain ⟨j56, b57, e58, hf⟩ := hf
        refine r_aaload h 8 (by decide) (by decide) dX3_be_114 j56 (v := .ref b57) (by rw [e58]; rfl) ?_
        obtain ⟨k59, hf⟩ := hf
        refine c790 hl h dX3_be_115 k59 hf (Nat.le_of_ble_eq_true rfl) (by decide) (by decide) (fun M60 hf => ?_)
        refine r_iinc (v := v2 + 1) (lv' := [(2, .int (v2 + 1)), (0, .ref v0), (1, .ref v1)]) h 2 dX3_be_118 rfl rfl (by decide) rfl ?_
        refine r_goto (tgt := 95) h dX3_be_121 (by decide) ?_
        exact V.sub [1, 2, 0] rfl hf)
    (by
      intro v0 v1 v2 M hf
      show V l G X 0 0 M 126 [(0, .ref v0), (1, .ref v1), (2, .int v2)] []
      refine r_iload_n h 2 dX3_be_126 rfl rfl ?_
      refine r_aload_n h 1 dX3_be_127 rfl rfl ?_
      obtain ⟨k61, hf⟩ := hf
      refine g360 h dX3_be_128 k61 ?_
      refine r_icmp_ge (tgt := 155) h dX3_be_131 (by decide) (fun c62 => ?_) (fun c62 => ?_)
      · have hf := ite_t c62 hf
        refine r_aload_n h 1 dX3_be_155 rfl rfl ?_
        obtain ⟨b63, e64, hf⟩ := hf
        refine g334 h dX3_be_156 k61 e64 ?_
        refine r_iconst (v := 0) h dX3_be_159 (by decide) ?_
        refine r_aload_n h 0 dX3_be_160 rfl rfl ?_
        obtain ⟨k65, hf⟩ := hf
        obtain ⟨b66, e67, hf⟩ := hf
        refine g334 h dX3_be_161 k65 e67 ?_
        refine r_iconst (v := 0) h dX3_be_164 (by decide) ?_
        refine r_bipush (v := 12) h dX3_be_165 (by decide) ?_
        obtain ⟨j68, hf⟩ := hf
        refine r_copyq (n0 := 12) h q794 q781 q780 q148 dX3_be_167 (by decide) (by decide) (Nat.le_of_ble_eq_true rfl) (by decide) (by decide) j68 ?_
        refine r_goW (fun M69 eM69 => ?_)
        have hf := hf M69 eM69
        refine r_aload_n h 1 dX3_be_170 rfl rfl ?_
        obtain ⟨k70, hf⟩ := hf
        obtain ⟨b71, e72, hf⟩ := hf
        refine g336 h dX3_be_171 k70 e72 ?_
        refine r_iconst (v := 0) h dX3_be_174 (by decide) ?_
        refine r_aload_n h 0 dX3_be_175 rfl rfl ?_
        obtain ⟨k73, hf⟩ := hf
        obtain ⟨b74, e75, hf⟩ := hf
        refine g336 h dX3_be_176 k73 e75 ?_
        refine r_iconst (v := 0) h dX3_be_179 (by decide) ?_
        refine r_bipush (v := 72) h dX3_be_180 (by decide) ?_
        obtain ⟨j76, hf⟩ := hf
        refine r_copyi (n0 := 72) h q794 q781 q780 q148 dX3_be_182 (by decide) (by decide) (Nat.le_of_ble_eq_true rfl) (by decide) (by decide) j76 ?_
        refine r_goW (fun M77 eM77 => ?_)
        have hf := hf M77 eM77
        refine r_aload_n h 1 dX3_be_185 rfl rfl ?_
        obtain ⟨k78, hf⟩ := hf
        obtain ⟨b79, e80, hf⟩ := hf
        refine g338 h dX3_be_186 k78 e80 ?_
        refine r_iconst (v := 0) h dX3_be_189 (by decide) ?_
        refine r_aload_n h 0 dX3_be_190 rfl rfl ?_
        obtain ⟨k81, hf⟩ := hf
        obtain ⟨b82, e83, hf⟩ := hf
        refine g338 h dX3_be_191 k81 e83 ?_
        refine r_iconst (v := 0) h dX3_be_194 (by decide) ?_
        refine r_sipush (v := 300) h dX3_be_195 (by decide) ?_
        obtain ⟨j84, hf⟩ := hf
        refine r_copyi (n0 := 300) h q794 q781 q780 q148 dX3_be_198 (by decide) (by decide) (Nat.le_of_ble_eq_true rfl) (by decide) (by decide) j84 ?_
        refine r_goW (fun M85 eM85 => ?_)
        have hf := hf M85 eM85
        refine r_aload_n h 0 dX3_be_201 rfl rfl ?_
        refine r_aload_n h 1 dX3_be_202 rfl rfl ?_
        obtain ⟨k86, hf⟩ := hf
        refine g341 h dX3_be_203 k86 ?_
        obtain ⟨k87, hf⟩ := hf
        refine p341 h dX3_be_206 k87 ?_
        refine r_goW (fun M88 eM88 => ?_)
        have hf := hf M88 eM88
        refine r_aload_n h 0 dX3_be_209 rfl rfl ?_
        refine r_aload_n h 1 dX3_be_210 rfl rfl ?_
        obtain ⟨k89, hf⟩ := hf
        refine g344 h dX3_be_211 k89 ?_
        obtain ⟨k90, hf⟩ := hf
        refine p344 h dX3_be_214 k90 ?_
        refine r_goW (fun M91 eM91 => ?_)
        have hf := hf M91 eM91
        refine r_aload_n h 0 dX3_be_217 rfl rfl ?_
        refine r_aload_n h 1 dX3_be_218 rfl rfl ?_
        obtain ⟨k92, hf⟩ := hf
        refine g348 h dX3_be_219 k92 ?_
        obtain ⟨k93, hf⟩ := hf
        refine p348 h dX3_be_222 k93 ?_
        refine r_goW (fun M94 eM94 => ?_)
        have hf := hf M94 eM94
        refine r_aload_n h 0 dX3_be_225 rfl rfl ?_
        refine r_aload_n h 1 dX3_be_226 rfl rfl ?_
        obtain ⟨k95, hf⟩ := hf
        refine g351 h dX3_be_227 k95 ?_
        obtain ⟨k96, hf⟩ := hf
        refine p351 h dX3_be_230 k96 ?_
        refine r_goW (fun M97 eM97 => ?_)
        have hf := hf M97 eM97
        refine r_aload_n h 0 dX3_be_233 rfl rfl ?_
        refine r_aload_n h 1 dX3_be_234 rfl rfl ?_
        obtain ⟨k98, hf⟩ := hf
        refine g354 h dX3_be_235 k98 ?_
        obtain ⟨k99, hf⟩ := hf
        refine p354 h dX3_be_238 k99 ?_
        refine r_goW (fun M100 eM100 => ?_)
        have hf := hf M100 eM100
        refine r_aload_n h 0 dX3_be_241 rfl rfl ?_
        refine r_aload_n h 1 dX3_be_242 rfl rfl ?_
        obtain ⟨k101, hf⟩ := hf
        refine g357 h dX3_be_243 k101 ?_
        obtain ⟨k102, hf⟩ := hf
        refine p357 h dX3_be_246 k102 ?_
        refine r_goW (fun M103 eM103 => ?_)
        have hf := hf M103 eM103
        refine r_aload_n h 0 dX3_be_249 rfl rfl ?_
        refine r_aload_n h 1 dX3_be_250 rfl rfl ?_
        obtain ⟨k104, hf⟩ := hf
        refine g360 h dX3_be_251 k104 ?_
        obtain ⟨k105, hf⟩ := hf
        refine p360 h dX3_be_254 k105 ?_
        refine r_goW (fun M106 eM106 => ?_)
        have hf := hf M106 eM106
        refine r_aload_n h 0 dX3_be_257 rfl rfl ?_
        refine r_aload_n h 1 dX3_be_258 rfl rfl ?_
        obtain ⟨k107, hf⟩ := hf
        refine g363 h dX3_be_259 k107 ?_
        obtain ⟨k108, hf⟩ := hf
        refine p363 h dX3_be_262 k108 ?_
        refine r_goW (fun M109 eM109 => ?_)
        have hf := hf M109 eM109
        refine r_aload_n h 0 dX3_be_265 rfl rfl ?_
        refine r_aload_n h 1 dX3_be_266 rfl rfl ?_
        obtain ⟨k110, hf⟩ := hf
        refine g365 h dX3_be_267 k110 ?_
        obtain ⟨k111, hf⟩ := hf
        refine p365 h dX3_be_270 k111 ?_
        refine r_goW (fun M112 eM112 => ?_)
        have hf := hf M112 eM112
        refine r_aload_n h 0 dX3_be_273 rfl rfl ?_
        refine r_aload_n h 1 dX3_be_274 rfl rfl ?_
        obtain ⟨k113, hf⟩ := hf
        refine g367 h dX3_be_275 k113 ?_
        obtain ⟨k114, hf⟩ := hf
        refine p367 h dX3_be_278 k114 ?_
        refine r_goW (fun M115 eM115 => ?_)
        have hf := hf M115 eM115
        refine r_aload_n h 0 dX3_be_281 rfl rfl ?_
        refine r_aload_n h 1 dX3_be_282 rfl rfl ?_
        obtain ⟨k116, hf⟩ := hf
        refine g370 h dX3_be_283 k116 ?_
        obtain ⟨k117, hf⟩ := hf
        refine p370 h dX3_be_286 k117 ?_
        refine r_goW (fun M118 eM118 => ?_)
        have hf := hf M118 eM118
        refine r_aload_n h 0 dX3_be_289 rfl rfl ?_
        refine r_aload_n h 1 dX3_be_290 rfl rfl ?_
        obtain ⟨k119, hf⟩ := hf
        refine g373 h dX3_be_291 k119 ?_
        obtain ⟨k120, hf⟩ := hf
        refine p373 h dX3_be_294 k120 ?_
        refine r_goW (fun M121 eM121 => ?_)
        have hf := hf M121 eM121
        refine r_aload_n h 0 dX3_be_297 rfl rfl ?_
        refine r_aload_n h 1 dX3_be_298 rfl rfl ?_
        obtain ⟨k122, hf⟩ := hf
        refine g376 h dX3_be_299 k122 ?_
        obtain ⟨k123, hf⟩ := hf
        refine p376 h dX3_be_302 k123 ?_
        refine r_goW (fun M124 eM124 => ?_)
        have hf := hf M124 eM124
        refine r_aload_n h 0 dX3_be_305 rfl rfl ?_
        refine r_aload_n h 1 dX3_be_306 rfl rfl ?_
        obtain ⟨k125, hf⟩ := hf
        refine g379 h dX3_be_307 k125 ?_
        obtain ⟨k126, hf⟩ := hf
        refine p379 h dX3_be_310 k126 ?_
        refine r_goW (fun M127 eM127 => ?_)
        have hf := hf M127 eM127
        refine r_aload_n h 0 dX3_be_313 rfl rfl ?_
        refine r_aload_n h 1 dX3_be_314 rfl rfl ?_
        obtain ⟨k128, hf⟩ := hf
        refine g382 h dX3_be_315 k128 ?_
        obtain ⟨k129, hf⟩ := hf
        refine p382 h dX3_be_318 k129 ?_
        refine r_goW (fun M130 eM130 => ?_)
        have hf := hf M130 eM130
        exact r_return h hq dX3_be_321 ⟨rfl, hf⟩
      · have hf := ite_f c62 hf
        refine r_aload_n h 0 dX3_be_134 rfl rfl ?_
        obtain ⟨k131, hf⟩ := hf
        obtain ⟨b132, e133, hf⟩ := hf
        refine g331 h dX3_be_135 k131 e133 ?_
        refine r_iload_n h 2 dX3_be_138 rfl rfl ?_
        obtain ⟨j134, b135, e136, hf⟩ := hf
        refine r_aaload h 5 (by decide) (by decide) dX3_be_139 j134 (v := .ref b135) (by rw [e136]; rfl) ?_
        refine r_aload_n h 1 dX3_be_140 rfl rfl ?_
        obtain ⟨b137, e138, hf⟩ := hf
        refine g331 h dX3_be_141 k61 e138 ?_
        refine r_iload_n h 2 dX3_be_144 rfl rfl ?_
        obtain ⟨j139, b140, e141, hf⟩ := hf
        refine r_aaload h 5 (by decide) (by decide) dX3_be_145 j139 (v := .ref b140) (by rw [e141]; rfl) ?_
        obtain ⟨k142, hf⟩ := hf
        refine c775 hl h dX3_be_146 k142 hf (Nat.le_of_ble_eq_true rfl) (by decide) (by decide) (fun M143 hf => ?_)
        refine r_iinc (v := v2 + 1) (lv' := [(2, .int (v2 + 1)), (0, .ref v0), (1, .ref v1)]) h 2 dX3_be_149 rfl rfl (by decide) rfl ?_
        refine r_goto (tgt := 126) h dX3_be_152 (by decide) ?_
        exact V.sub [1, 2, 0] rfl hf)
  refine r_iconst (v := 0) h dX3_be_0 (by decide) ?_
  refine r_istore_n (lv' := [(2, .int 0), (0, .ref a0), (1, .ref a1)]) h dX3_be_1 rfl (by decide) rfl ?_
  exact V.sub [1, 2, 0] rfl hf
theorem c771 {l : Launch} {G : gG} {X : gX} {cc : ByteArray} {nL F L bc bs pc : Nat} {M : gM} {lv : List (Nat × Value)} {rest : List Value} {a0 : Nat} {a1 : Nat} {K : gM → Prop} (hl : l.stackTraces = false) (h : hX l G X cc nL "GlacierMail" F L) (d : decode cc pc = .ok (.invokevirtual 148, 3)) (hk : kd M a0 = some (.inl 3)) (hf : f_X3_be a0 a1 M K) (hst : (rest.map fun v => v.category).sum ≤ 8) (hF : 3 ≤ F) (hL : 143 ≤ L) (kk : ∀ M1, K M1 → V l G X bc bs M1 (pc + 3) lv rest) : V l G X bc bs M pc lv (.ref a1 :: .ref a0 :: rest) := r_callV (n := 1) (As := [.ref a1]) h (m_X3_be hl hf) 3 rfl hk rfl ⟨by decide, by decide, by decide +kernel⟩ d q771 q772 q773 q137 q774 rfl rfl hst hF hL (Nat.zero_le _) (Nat.zero_le _) (kV_go kk) kN_go
theorem c841 {l : Launch} {G : gG} {X : gX} {cc : ByteArray} {nL F L bc bs pc : Nat} {M : gM} {lv : List (Nat × Value)} {rest : List Value} {a0 : Nat} {a1 : Nat} {K : gM → Prop} (hl : l.stackTraces = false) (h : hX l G X cc nL "GlacierMail$Reader" F L) (d : decode cc pc = .ok (.invokevirtual 101, 3)) (hk : kd M a0 = some (.inl 3)) (hf : f_X3_be a0 a1 M K) (hst : (rest.map fun v => v.category).sum ≤ 8) (hF : 3 ≤ F) (hL : 143 ≤ L) (kk : ∀ M1, K M1 → V l G X bc bs M1 (pc + 3) lv rest) : V l G X bc bs M pc lv (.ref a1 :: .ref a0 :: rest) := r_callV (n := 1) (As := [.ref a1]) h (m_X3_be hl hf) 3 rfl hk rfl ⟨by decide, by decide, by decide +kernel⟩ d q841 q772 q773 q137 q774 rfl rfl hst hF hL (Nat.zero_le _) (Nat.zero_le _) (kV_go kk) kN_go
def f_X2_sign (a0 : Nat) (M : gM) (K : Int32 → gM → Prop) : Prop :=
  ∀ P0 : Nat → gM → Prop,
  ∀ P38 : Nat → gM → Prop,
  (∀ (v0 : Nat) (M : gM), (kd M v0 = some (.inl 2) ∧ if (iv M v0 7) ≤ (iv M v0 8) then P38 v0 M else ∃ b3, rv M v0 0 = some b3 ∧ inA M b3 1 (iv M v0 8) ∧ if (iv M b3 (ix (iv M v0 8))) = 32 then ∀ M7, M7 = sI M v0 8 ((iv M v0 8) + 1) → P0 v0 M7 else P38 v0 M) → P0 v0 M) →
  (∀ (v0 : Nat) (M : gM), (kd M v0 = some (.inl 2) ∧ if (iv M v0 7) ≤ (iv M v0 8) then K (-1) M else ∃ b10, rv M v0 0 = some b10 ∧ inA M b10 1 (iv M v0 8) ∧ K ((iv M b10 (ix (iv M v0 8))) &&& 255) M) → P38 v0 M) →
  P0 a0 M
set_option maxHeartbeats 4000000 in
theorem m_X2_sign {l : Launch} (hl : l.stackTraces = false) {G : gG} {a0 : Nat} {M : gM} {K : Int32 → gM → Prop} (hf : f_X2_sign a0 M K) : gMet l G yX2_sign (ws_ yX2_sign cX2_sign 1 (some Jvm.ClassFile.FieldType.int)) ({ frames := 0, cells := 0, slots := 0, locals := 0 }) M [.ref a0] (kI K) kN := by
  refine gm_of hl (ret := (some Jvm.ClassFile.FieldType.int)) rfl (Nat.le_of_ble_eq_true rfl) (fun X h hq => ?_)
  have h : hX l G X cX2_sign 1 "GlacierMail$Reader" 0 0 := h
  have hf := hf
  show V l G X 0 0 M 0 [(0, .ref a0)] []
  have hf := hf
    (fun v0 M => V l G X 0 0 M 0 [(0, .ref v0)] [])
    (fun v0 M => V l G X 0 0 M 38 [(0, .ref v0)] [])
    (by
      intro v0 M hf
      show V l G X 0 0 M 0 [(0, .ref v0)] []
      refine r_aload_n h 0 dX2_sign_0 rfl rfl ?_
      obtain ⟨k1, hf⟩ := hf
      refine g517 h dX2_sign_1 k1 ?_
      refine r_aload_n h 0 dX2_sign_4 rfl rfl ?_
      refine g516 h dX2_sign_5 k1 ?_
      refine r_icmp_ge (tgt := 38) h dX2_sign_8 (by decide) (fun c2 => ?_) (fun c2 => ?_)
      · have hf := ite_t c2 hf
        exact V.sub [0] rfl hf
      · have hf := ite_f c2 hf
        refine r_aload_n h 0 dX2_sign_11 rfl rfl ?_
        obtain ⟨b3, e4, hf⟩ := hf
        refine g507 h dX2_sign_12 k1 e4 ?_
        refine r_aload_n h 0 dX2_sign_15 rfl rfl ?_
        refine g517 h dX2_sign_16 k1 ?_
        obtain ⟨j5, hf⟩ := hf
        refine r_baload h dX2_sign_19 j5 ?_
        refine r_bipush (v := 32) h dX2_sign_20 (by decide) ?_
        refine r_icmp_ne (tgt := 38) h dX2_sign_22 (by decide) (fun c6 => ?_) (fun c6 => ?_)
        · have hf := ite_f c6 hf
          exact V.sub [0] rfl hf
        · have hf := ite_t c6 hf
          refine r_aload_n h 0 dX2_sign_25 rfl rfl ?_
          refine r_dup h dX2_sign_26 rfl ?_
          refine g517 h dX2_sign_27 k1 ?_
          refine r_iconst (v := 1) h dX2_sign_30 (by decide) ?_
          refine r_iadd h dX2_sign_31 ?_
          refine p517 h dX2_sign_32 k1 ?_
          refine r_goW (fun M7 eM7 => ?_)
          have hf := hf M7 eM7
          refine r_goto (tgt := 0) h dX2_sign_35 (by decide) ?_
          exact V.sub [0] rfl hf)
    (by
      intro v0 M hf
      show V l G X 0 0 M 38 [(0, .ref v0)] []
      refine r_aload_n h 0 dX2_sign_38 rfl rfl ?_
      obtain ⟨k8, hf⟩ := hf
      refine g517 h dX2_sign_39 k8 ?_
      refine r_aload_n h 0 dX2_sign_42 rfl rfl ?_
      refine g516 h dX2_sign_43 k8 ?_
      refine r_icmp_ge (tgt := 65) h dX2_sign_46 (by decide) (fun c9 => ?_) (fun c9 => ?_)
      · have hf := ite_t c9 hf
        refine r_iconst (v := (-1)) h dX2_sign_65 (by decide) ?_
        exact r_ireturn h hq dX2_sign_66 ⟨_, rfl, hf⟩
      · have hf := ite_f c9 hf
        refine r_aload_n h 0 dX2_sign_49 rfl rfl ?_
        obtain ⟨b10, e11, hf⟩ := hf
        refine g507 h dX2_sign_50 k8 e11 ?_
        refine r_aload_n h 0 dX2_sign_53 rfl rfl ?_
        refine g517 h dX2_sign_54 k8 ?_
        obtain ⟨j12, hf⟩ := hf
        refine r_baload h dX2_sign_57 j12 ?_
        refine r_sipush (v := 255) h dX2_sign_58 (by decide) ?_
        refine r_iand h dX2_sign_61 ?_
        refine r_goto (tgt := 66) h dX2_sign_62 (by decide) ?_
        exact r_ireturn h hq dX2_sign_66 ⟨_, rfl, hf⟩)
  exact V.sub [0] rfl hf
theorem c846 {l : Launch} {G : gG} {X : gX} {cc : ByteArray} {nL F L bc bs pc : Nat} {M : gM} {lv : List (Nat × Value)} {rest : List Value} {a0 : Nat} {K : Int32 → gM → Prop} (hl : l.stackTraces = false) (h : hX l G X cc nL "GlacierMail$Reader" F L) (d : decode cc pc = .ok (.invokevirtual 73, 3)) (hk : kd M a0 = some (.inl 2)) (hf : f_X2_sign a0 M K) (hst : (rest.map fun v => v.category).sum ≤ 8) (hF : 1 ≤ F) (hL : 20 ≤ L) (kk : ∀ x M1, K x M1 → V l G X bc bs M1 (pc + 3) lv (.int x :: rest)) : V l G X bc bs M pc lv (.ref a0 :: rest) := r_callV (n := 0) (As := []) h (m_X2_sign hl hf) 2 rfl hk rfl ⟨by decide, by decide, by decide +kernel⟩ d q846 q848 qs11 q136 q849 rfl rfl hst hF hL (Nat.zero_le _) (Nat.zero_le _) (kI_go kk) kN_go
def f_X2_fail (a0 : Nat) (a1 : Int32) (M : gM) (K : gM → Prop) (KX : Addr → String → gM → Prop) : Prop :=
  kd M a0 = some (.inl 2) ∧ ∃ b2, rv M a0 5 = some b2 ∧ kd M b2 = some (.inl 8) ∧ ∀ M5, M5 = sI M b2 6 a1 → kd M5 a0 = some (.inl 2) ∧ ∃ b7, rv M5 a0 5 = some b7 ∧ kd M5 b7 = some (.inl 8) ∧ KX b7 "GlacierMail$Wrong" M5
set_option maxHeartbeats 4000000 in
theorem m_X2_fail {l : Launch} (hl : l.stackTraces = false) {G : gG} {a0 : Nat} {a1 : Int32} {M : gM} {K : gM → Prop} {KX : Addr → String → gM → Prop} (hf : f_X2_fail a0 a1 M K KX) : gMet l G yX2_fail (ws_ yX2_fail cX2_fail 2 none) ({ frames := 0, cells := 0, slots := 0, locals := 0 }) M [.ref a0, .int a1] (kV K) KX := by
  refine gm_of hl (ret := none) rfl (Nat.le_of_ble_eq_true rfl) (fun X h hq => ?_)
  have h : hX l G X cX2_fail 2 "GlacierMail$Reader" 0 0 := h
  have hf := hf
  show V l G X 0 0 M 0 [(0, .ref a0), (1, .int a1)] []
  unfold f_X2_fail at hf
  refine r_aload_n h 0 dX2_fail_0 rfl rfl ?_
  obtain ⟨k1, hf⟩ := hf
  obtain ⟨b2, e3, hf⟩ := hf
  refine g514 h dX2_fail_1 k1 e3 ?_
  refine r_iload_n h 1 dX2_fail_4 rfl rfl ?_
  obtain ⟨k4, hf⟩ := hf
  refine p490 h dX2_fail_5 k4 ?_
  refine r_goW (fun M5 eM5 => ?_)
  have hf := hf M5 eM5
  refine r_aload_n h 0 dX2_fail_8 rfl rfl ?_
  obtain ⟨k6, hf⟩ := hf
  obtain ⟨b7, e8, hf⟩ := hf
  refine g514 h dX2_fail_9 k6 e8 ?_
  obtain ⟨k9, hf⟩ := hf
  exact r_athrow h 8 rfl dX2_fail_12 k9 (r_out h hq hf)
theorem c850 {l : Launch} {G : gG} {X : gX} {cc : ByteArray} {nL F L bc bs pc : Nat} {M : gM} {lv : List (Nat × Value)} {rest : List Value} {a0 : Nat} {a1 : Int32} {K : gM → Prop} {KX : Addr → String → gM → Prop} (hl : l.stackTraces = false) (h : hX l G X cc nL "GlacierMail$Reader" F L) (d : decode cc pc = .ok (.invokevirtual 88, 3)) (hk : kd M a0 = some (.inl 2)) (hf : f_X2_fail a0 a1 M K KX) (hst : (rest.map fun v => v.category).sum ≤ 8) (hF : 1 ≤ F) (hL : 21 ≤ L) (kk : ∀ M1, K M1 → V l G X bc bs M1 (pc + 3) lv rest) (kx : ∀ q E M1, KX q E M1 → VX l G X bc bs M1 pc lv q E) : V l G X bc bs M pc lv (.int a1 :: .ref a0 :: rest) := r_callV (n := 1) (As := [.int a1]) h (m_X2_fail hl hf) 2 rfl hk rfl ⟨by decide, by decide, by decide +kernel⟩ d q850 q852 qs12 q136 q853 rfl rfl hst hF hL (Nat.zero_le _) (Nat.zero_le _) (kV_go kk) kx
def f_X2_more (a0 : Nat) (a1 : Int32) (a2 : Int32) (M : gM) (K : Int32 → gM → Prop) (KX : Addr → String → gM → Prop) : Prop :=
  ∀ P29 : Nat → Int32 → Int32 → gM → Prop,
  ∀ P42 : Nat → Int32 → Int32 → Int32 → gM → Prop,
  ∀ P61 : Nat → Int32 → Int32 → Int32 → gM → Prop,
  ∀ P73 : Nat → Int32 → Int32 → Int32 → Int32 → gM → Prop,
  (∀ (v0 : Nat) (v1 : Int32) (v2 : Int32) (M : gM), (kd M v0 = some (.inl 2) ∧ f_X2_sign v0 M (fun x14 M13 => if x14 = (-1) then P42 v0 v1 v2 0 M13 else P42 v0 v1 v2 1 M13)) → P29 v0 v1 v2 M) →
  (∀ (v0 : Nat) (v1 : Int32) (v2 : Int32) (s0 : Int32) (M : gM), (if s0 = 0 then P61 v0 v1 v2 s0 M else if v1 ≤ 0 then P61 v0 v1 v2 s0 M else kd M v0 = some (.inl 2) ∧ ∀ M19, M19 = sI M v0 8 ((iv M v0 8) + 1) → P61 v0 v1 v2 s0 M19) → P42 v0 v1 v2 s0 M) →
  (∀ (v0 : Nat) (v1 : Int32) (v2 : Int32) (v3 : Int32) (M : gM), (if v3 = 0 then P73 v0 v1 v2 v3 (-1) M else kd M v0 = some (.inl 2) ∧ f_X2_sign v0 M (fun x23 M22 => P73 v0 v1 v2 v3 x23 M22)) → P61 v0 v1 v2 v3 M) →
  (∀ (v0 : Nat) (v1 : Int32) (v2 : Int32) (v3 : Int32) (s0 : Int32) (M : gM), (if v3 = 0 then (v3 = 0 ∨ v3 = 1) ∧ K v3 M else if v1 = v2 then kd M v0 = some (.inl 2) ∧ f_X2_fail v0 (iv M v0 8) M (fun M27 => (v3 = 0 ∨ v3 = 1) ∧ K v3 M27) KX else (v3 = 0 ∨ v3 = 1) ∧ K v3 M) → P73 v0 v1 v2 v3 s0 M) →
  if a1 ≤ 0 then P29 a0 a1 a2 M else kd M a0 = some (.inl 2) ∧ f_X2_sign a0 M (fun x4 M3 => if x4 = (-1) then P29 a0 a1 a2 M3 else kd M3 a0 = some (.inl 2) ∧ f_X2_sign a0 M3 (fun x8 M7 => if x8 = 59 then P29 a0 a1 a2 M7 else kd M7 a0 = some (.inl 2) ∧ f_X2_fail a0 (iv M7 a0 8) M7 (fun M11 => P29 a0 a1 a2 M11) KX))
set_option maxHeartbeats 4000000 in
theorem m_X2_more {l : Launch} (hl : l.stackTraces = false) {G : gG} {a0 : Nat} {a1 : Int32} {a2 : Int32} {M : gM} {K : Int32 → gM → Prop} {KX : Addr → String → gM → Prop} (hf : f_X2_more a0 a1 a2 M K KX) : gMet l G yX2_more (ws_ yX2_more cX2_more 5 (some Jvm.ClassFile.FieldType.boolean)) ({ frames := 1, cells := 0, slots := 0, locals := 21 }) M [.ref a0, .int a1, .int a2] (kI K) KX := by
  refine gm_of hl (ret := (some Jvm.ClassFile.FieldType.boolean)) rfl (Nat.le_of_ble_eq_true rfl) (fun X h hq => ?_)
  have h : hX l G X cX2_more 5 "GlacierMail$Reader" 1 21 := h
  have hf := hf
  show V l G X 0 0 M 0 [(0, .ref a0), (1, .int a1), (2, .int a2)] []
  have hf := hf
    (fun v0 v1 v2 M => V l G X 0 0 M 29 [(0, .ref v0), (1, .int v1), (2, .int v2)] [])
    (fun v0 v1 v2 s0 M => V l G X 0 0 M 42 [(0, .ref v0), (1, .int v1), (2, .int v2)] [.int s0])
    (fun v0 v1 v2 v3 M => V l G X 0 0 M 61 [(0, .ref v0), (1, .int v1), (2, .int v2), (3, .int v3)] [])
    (fun v0 v1 v2 v3 s0 M => V l G X 0 0 M 73 [(0, .ref v0), (1, .int v1), (2, .int v2), (3, .int v3)] [.int s0])
    (by
      intro v0 v1 v2 M hf
      show V l G X 0 0 M 29 [(0, .ref v0), (1, .int v1), (2, .int v2)] []
      refine r_aload_n h 0 dX2_more_29 rfl rfl ?_
      obtain ⟨k12, hf⟩ := hf
      refine c846 hl h dX2_more_30 k12 hf (Nat.le_of_ble_eq_true rfl) (by decide) (by decide) (fun x14 M13 hf => ?_)
      refine r_iconst (v := (-1)) h dX2_more_33 (by decide) ?_
      refine r_icmp_eq (tgt := 41) h dX2_more_34 (by decide) (fun c15 => ?_) (fun c15 => ?_)
      · have hf := ite_t c15 hf
        refine r_iconst (v := 0) h dX2_more_41 (by decide) ?_
        exact V.sub [0, 1, 2] rfl hf
      · have hf := ite_f c15 hf
        refine r_iconst (v := 1) h dX2_more_37 (by decide) ?_
        refine r_goto (tgt := 42) h dX2_more_38 (by decide) ?_
        exact V.sub [0, 1, 2] rfl hf)
    (by
      intro v0 v1 v2 s0 M hf
      show V l G X 0 0 M 42 [(0, .ref v0), (1, .int v1), (2, .int v2)] [.int s0]
      refine r_istore_n (lv' := [(3, .int s0), (0, .ref v0), (1, .int v1), (2, .int v2)]) h dX2_more_42 rfl (by decide) rfl ?_
      refine r_iload_n h 0 dX2_more_43 rfl rfl ?_
      refine r_if_eq (tgt := 61) h dX2_more_44 (by decide) (fun c16 => ?_) (fun c16 => ?_)
      · have hf := ite_t c16 hf
        exact V.sub [1, 2, 3, 0] rfl hf
      · have hf := ite_f c16 hf
        refine r_iload_n h 2 dX2_more_47 rfl rfl ?_
        refine r_if_le (tgt := 61) h dX2_more_48 (by decide) (fun c17 => ?_) (fun c17 => ?_)
        · have hf := ite_t c17 hf
          exact V.sub [1, 2, 3, 0] rfl hf
        · have hf := ite_f c17 hf
          refine r_aload_n h 1 dX2_more_51 rfl rfl ?_
          refine r_dup h dX2_more_52 rfl ?_
          obtain ⟨k18, hf⟩ := hf
          refine g517 h dX2_more_53 k18 ?_
          refine r_iconst (v := 1) h dX2_more_56 (by decide) ?_
          refine r_iadd h dX2_more_57 ?_
          refine p517 h dX2_more_58 k18 ?_
          refine r_goW (fun M19 eM19 => ?_)
          have hf := hf M19 eM19
          exact V.sub [1, 2, 3, 0] rfl hf)
    (by
      intro v0 v1 v2 v3 M hf
      show V l G X 0 0 M 61 [(0, .ref v0), (1, .int v1), (2, .int v2), (3, .int v3)] []
      refine r_iload_n h 3 dX2_more_61 rfl rfl ?_
      refine r_if_eq (tgt := 72) h dX2_more_62 (by decide) (fun c20 => ?_) (fun c20 => ?_)
      · have hf := ite_t c20 hf
        refine r_iconst (v := (-1)) h dX2_more_72 (by decide) ?_
        exact V.sub [0, 1, 2, 3] rfl hf
      · have hf := ite_f c20 hf
        refine r_aload_n h 0 dX2_more_65 rfl rfl ?_
        obtain ⟨k21, hf⟩ := hf
        refine c846 hl h dX2_more_66 k21 hf (Nat.le_of_ble_eq_true rfl) (by decide) (by decide) (fun x23 M22 hf => ?_)
        refine r_goto (tgt := 73) h dX2_more_69 (by decide) ?_
        exact V.sub [0, 1, 2, 3] rfl hf)
    (by
      intro v0 v1 v2 v3 s0 M hf
      show V l G X 0 0 M 73 [(0, .ref v0), (1, .int v1), (2, .int v2), (3, .int v3)] [.int s0]
      refine r_istore (lv' := [(4, .int s0), (0, .ref v0), (1, .int v1), (2, .int v2), (3, .int v3)]) h dX2_more_73 (by decide) rfl ?_
      refine r_iload_n h 4 dX2_more_75 rfl rfl ?_
      refine r_if_eq (tgt := 92) h dX2_more_76 (by decide) (fun c24 => ?_) (fun c24 => ?_)
      · have hf := ite_t c24 hf
        refine r_iload_n h 4 dX2_more_92 rfl rfl ?_
        exact r_zreturn h hq dX2_more_93 hf.1 ⟨_, rfl, hf.2⟩
      · have hf := ite_f c24 hf
        refine r_iload_n h 2 dX2_more_79 rfl rfl ?_
        refine r_iload_n h 3 dX2_more_80 rfl rfl ?_
        refine r_icmp_ne (tgt := 92) h dX2_more_81 (by decide) (fun c25 => ?_) (fun c25 => ?_)
        · have hf := ite_f c25 hf
          refine r_iload_n h 4 dX2_more_92 rfl rfl ?_
          exact r_zreturn h hq dX2_more_93 hf.1 ⟨_, rfl, hf.2⟩
        · have hf := ite_t c25 hf
          refine r_aload_n h 1 dX2_more_84 rfl rfl ?_
          refine r_aload_n h 1 dX2_more_85 rfl rfl ?_
          obtain ⟨k26, hf⟩ := hf
          refine g517 h dX2_more_86 k26 ?_
          refine c850 hl h dX2_more_89 k26 hf (Nat.le_of_ble_eq_true rfl) (by decide) (by decide) (fun M27 hf => ?_) (fun q9 E9 M9 hf => r_out h hq hf)
          refine r_iload_n h 4 dX2_more_92 rfl rfl ?_
          exact r_zreturn h hq dX2_more_93 hf.1 ⟨_, rfl, hf.2⟩)
  refine r_iload_n h 1 dX2_more_0 rfl rfl ?_
  refine r_if_le (tgt := 29) h dX2_more_1 (by decide) (fun c1 => ?_) (fun c1 => ?_)
  · have hf := ite_t c1 hf
    exact V.sub [0, 1, 2] rfl hf
  · have hf := ite_f c1 hf
    refine r_aload_n h 0 dX2_more_4 rfl rfl ?_
    obtain ⟨k2, hf⟩ := hf
    refine c846 hl h dX2_more_5 k2 hf (Nat.le_of_ble_eq_true rfl) (by decide) (by decide) (fun x4 M3 hf => ?_)
    refine r_iconst (v := (-1)) h dX2_more_8 (by decide) ?_
    refine r_icmp_eq (tgt := 29) h dX2_more_9 (by decide) (fun c5 => ?_) (fun c5 => ?_)
    · have hf := ite_t c5 hf
      exact V.sub [0, 1, 2] rfl hf
    · have hf := ite_f c5 hf
      refine r_aload_n h 0 dX2_more_12 rfl rfl ?_
      obtain ⟨k6, hf⟩ := hf
      refine c846 hl h dX2_more_13 k6 hf (Nat.le_of_ble_eq_true rfl) (by decide) (by decide) (fun x8 M7 hf => ?_)
      refine r_bipush (v := 59) h dX2_more_16 (by decide) ?_
      refine r_icmp_eq (tgt := 29) h dX2_more_18 (by decide) (fun c9 => ?_) (fun c9 => ?_)
      · have hf := ite_t c9 hf
        exact V.sub [0, 1, 2] rfl hf
      · have hf := ite_f c9 hf
        refine r_aload_n h 0 dX2_more_21 rfl rfl ?_
        refine r_aload_n h 0 dX2_more_22 rfl rfl ?_
        obtain ⟨k10, hf⟩ := hf
        refine g517 h dX2_more_23 k10 ?_
        refine c850 hl h dX2_more_26 k10 hf (Nat.le_of_ble_eq_true rfl) (by decide) (by decide) (fun M11 hf => ?_) (fun q9 E9 M9 hf => r_out h hq hf)
        exact V.sub [0, 1, 2] rfl hf
theorem c842 {l : Launch} {G : gG} {X : gX} {cc : ByteArray} {nL F L bc bs pc : Nat} {M : gM} {lv : List (Nat × Value)} {rest : List Value} {a0 : Nat} {a1 : Int32} {a2 : Int32} {K : Int32 → gM → Prop} {KX : Addr → String → gM → Prop} (hl : l.stackTraces = false) (h : hX l G X cc nL "GlacierMail$Reader" F L) (d : decode cc pc = .ok (.invokevirtual 105, 3)) (hk : kd M a0 = some (.inl 2)) (hf : f_X2_more a0 a1 a2 M K KX) (hst : (rest.map fun v => v.category).sum ≤ 8) (hF : 2 ≤ F) (hL : 45 ≤ L) (kk : ∀ x M1, K x M1 → V l G X bc bs M1 (pc + 3) lv (.int x :: rest)) (kx : ∀ q E M1, KX q E M1 → VX l G X bc bs M1 pc lv q E) : V l G X bc bs M pc lv (.int a2 :: .int a1 :: .ref a0 :: rest) := r_callV (n := 2) (As := [.int a1, .int a2]) h (m_X2_more hl hf) 2 rfl hk rfl ⟨by decide, by decide, by decide +kernel⟩ d q842 q844 qs10 q136 q845 rfl rfl hst hF hL (Nat.zero_le _) (Nat.zero_le _) (kI_go kk) kx
def f_X2_takes (a0 : Nat) (a1 : Nat) (M : gM) (K : Int32 → gM → Prop) : Prop :=
  ∀ P10 : Nat → Nat → Int32 → gM → Prop,
  ∀ P46 : Nat → Nat → Int32 → gM → Prop,
  ∀ P69 : Nat → Nat → Int32 → Int32 → Int32 → gM → Prop,
  ∀ P117 : Nat → Int32 → Int32 → gM → Prop,
  (∀ (v0 : Nat) (v1 : Nat) (v3 : Int32) (M : gM), (kd M v0 = some (.inl 2) ∧ if (iv M v0 7) ≤ v3 then P46 v0 v1 v3 M else ∃ b7, rv M v0 0 = some b7 ∧ inA M b7 1 v3 ∧ if (iv M b7 (ix v3)) < 97 then P46 v0 v1 v3 M else ∃ b11, rv M v0 0 = some b11 ∧ inA M b11 1 v3 ∧ if 122 < (iv M b11 (ix v3)) then P46 v0 v1 v3 M else P10 v0 v1 (v3 + 1) M) → P10 v0 v1 v3 M) →
  (∀ (v0 : Nat) (v1 : Nat) (v3 : Int32) (M : gM), (kd M v0 = some (.inl 2) ∧ f_len v1 M (fun x17 M16 => if (v3 - (iv M v0 8)) = x17 then P69 v0 v1 v3 1 0 M16 else P69 v0 v1 v3 0 0 M16)) → P46 v0 v1 v3 M) →
  (∀ (v0 : Nat) (v1 : Nat) (v3 : Int32) (v4 : Int32) (v5 : Int32) (M : gM), (f_len v1 M (fun x20 M19 => if x20 ≤ v5 then P117 v0 v3 v4 M19 else if v4 = 0 then P117 v0 v3 v4 M19 else kd M19 v0 = some (.inl 2) ∧ ∃ b24, rv M19 v0 0 = some b24 ∧ inA M19 b24 1 ((iv M19 v0 8) + v5) ∧ f_charAt v1 v5 M19 (fun x28 M27 => if (iv M19 b24 (ix ((iv M19 v0 8) + v5))) = x28 then P69 v0 v1 v3 1 (v5 + 1) M27 else P69 v0 v1 v3 0 (v5 + 1) M27))) → P69 v0 v1 v3 v4 v5 M) →
  (∀ (v0 : Nat) (v3 : Int32) (v4 : Int32) (M : gM), (if v4 = 0 then (v4 = 0 ∨ v4 = 1) ∧ K v4 M else kd M v0 = some (.inl 2) ∧ ∀ M32, M32 = sI M v0 8 v3 → (v4 = 0 ∨ v4 = 1) ∧ K v4 M32) → P117 v0 v3 v4 M) →
  kd M a0 = some (.inl 2) ∧ f_X2_sign a0 M (fun x3 M2 => kd M2 a0 = some (.inl 2) ∧ P10 a0 a1 (iv M2 a0 8) M2)
set_option maxHeartbeats 4000000 in
theorem m_X2_takes {l : Launch} (hl : l.stackTraces = false) {G : gG} {a0 : Nat} {a1 : Nat} {M : gM} {K : Int32 → gM → Prop} (hf : f_X2_takes a0 a1 M K) : gMet l G yX2_takes (ws_ yX2_takes cX2_takes 6 (some Jvm.ClassFile.FieldType.boolean)) ({ frames := 4, cells := 0, slots := 0, locals := 85 }) M [.ref a0, .ref a1] (kI K) kN := by
  refine gm_of hl (ret := (some Jvm.ClassFile.FieldType.boolean)) rfl (Nat.le_of_ble_eq_true rfl) (fun X h hq => ?_)
  have h : hX l G X cX2_takes 6 "GlacierMail$Reader" 4 85 := h
  have hf := hf
  show V l G X 0 0 M 0 [(0, .ref a0), (1, .ref a1)] []
  have hf := hf
    (fun v0 v1 v3 M => V l G X 0 0 M 10 [(0, .ref v0), (1, .ref v1), (3, .int v3)] [])
    (fun v0 v1 v3 M => V l G X 0 0 M 46 [(0, .ref v0), (1, .ref v1), (3, .int v3)] [])
    (fun v0 v1 v3 v4 v5 M => V l G X 0 0 M 69 [(0, .ref v0), (1, .ref v1), (3, .int v3), (4, .int v4), (5, .int v5)] [])
    (fun v0 v3 v4 M => V l G X 0 0 M 117 [(0, .ref v0), (3, .int v3), (4, .int v4)] [])
    (by
      intro v0 v1 v3 M hf
      show V l G X 0 0 M 10 [(0, .ref v0), (1, .ref v1), (3, .int v3)] []
      refine r_iload_n h 2 dX2_takes_10 rfl rfl ?_
      refine r_aload_n h 0 dX2_takes_11 rfl rfl ?_
      obtain ⟨k5, hf⟩ := hf
      refine g516 h dX2_takes_12 k5 ?_
      refine r_icmp_ge (tgt := 46) h dX2_takes_15 (by decide) (fun c6 => ?_) (fun c6 => ?_)
      · have hf := ite_t c6 hf
        exact V.sub [0, 1, 2] rfl hf
      · have hf := ite_f c6 hf
        refine r_aload_n h 0 dX2_takes_18 rfl rfl ?_
        obtain ⟨b7, e8, hf⟩ := hf
        refine g507 h dX2_takes_19 k5 e8 ?_
        refine r_iload_n h 2 dX2_takes_22 rfl rfl ?_
        obtain ⟨j9, hf⟩ := hf
        refine r_baload h dX2_takes_23 j9 ?_
        refine r_bipush (v := 97) h dX2_takes_24 (by decide) ?_
        refine r_icmp_lt (tgt := 46) h dX2_takes_26 (by decide) (fun c10 => ?_) (fun c10 => ?_)
        · have hf := ite_t c10 hf
          exact V.sub [0, 1, 2] rfl hf
        · have hf := ite_f c10 hf
          refine r_aload_n h 0 dX2_takes_29 rfl rfl ?_
          obtain ⟨b11, e12, hf⟩ := hf
          refine g507 h dX2_takes_30 k5 e12 ?_
          refine r_iload_n h 2 dX2_takes_33 rfl rfl ?_
          obtain ⟨j13, hf⟩ := hf
          refine r_baload h dX2_takes_34 j13 ?_
          refine r_bipush (v := 122) h dX2_takes_35 (by decide) ?_
          refine r_icmp_gt (tgt := 46) h dX2_takes_37 (by decide) (fun c14 => ?_) (fun c14 => ?_)
          · have hf := ite_t c14 hf
            exact V.sub [0, 1, 2] rfl hf
          · have hf := ite_f c14 hf
            refine r_iinc (v := v3 + 1) (lv' := [(3, .int (v3 + 1)), (0, .ref v0), (1, .ref v1)]) h 2 dX2_takes_40 rfl rfl (by decide) rfl ?_
            refine r_goto (tgt := 10) h dX2_takes_43 (by decide) ?_
            exact V.sub [1, 2, 0] rfl hf)
    (by
      intro v0 v1 v3 M hf
      show V l G X 0 0 M 46 [(0, .ref v0), (1, .ref v1), (3, .int v3)] []
      refine r_iload_n h 2 dX2_takes_46 rfl rfl ?_
      refine r_aload_n h 0 dX2_takes_47 rfl rfl ?_
      obtain ⟨k15, hf⟩ := hf
      refine g517 h dX2_takes_48 k15 ?_
      refine r_isub h dX2_takes_51 ?_
      refine r_aload_n h 1 dX2_takes_52 rfl rfl ?_
      refine c863 hl h dX2_takes_53 hf (Nat.le_of_ble_eq_true rfl) (by decide) (by decide) (fun x17 M16 hf => ?_)
      refine r_icmp_ne (tgt := 63) h dX2_takes_56 (by decide) (fun c18 => ?_) (fun c18 => ?_)
      · have hf := ite_f c18 hf
        refine r_iconst (v := 0) h dX2_takes_63 (by decide) ?_
        refine r_istore (lv' := [(4, .int 0), (0, .ref v0), (1, .ref v1), (3, .int v3)]) h dX2_takes_64 (by decide) rfl ?_
        refine r_iconst (v := 0) h dX2_takes_66 (by decide) ?_
        refine r_istore (lv' := [(5, .int 0), (4, .int 0), (0, .ref v0), (1, .ref v1), (3, .int v3)]) h dX2_takes_67 (by decide) rfl ?_
        exact V.sub [2, 3, 4, 1, 0] rfl hf
      · have hf := ite_t c18 hf
        refine r_iconst (v := 1) h dX2_takes_59 (by decide) ?_
        refine r_goto (tgt := 64) h dX2_takes_60 (by decide) ?_
        refine r_istore (lv' := [(4, .int 1), (0, .ref v0), (1, .ref v1), (3, .int v3)]) h dX2_takes_64 (by decide) rfl ?_
        refine r_iconst (v := 0) h dX2_takes_66 (by decide) ?_
        refine r_istore (lv' := [(5, .int 0), (4, .int 1), (0, .ref v0), (1, .ref v1), (3, .int v3)]) h dX2_takes_67 (by decide) rfl ?_
        exact V.sub [2, 3, 4, 1, 0] rfl hf)
    (by
      intro v0 v1 v3 v4 v5 M hf
      show V l G X 0 0 M 69 [(0, .ref v0), (1, .ref v1), (3, .int v3), (4, .int v4), (5, .int v5)] []
      refine r_iload h 4 dX2_takes_69 rfl ?_
      refine r_aload_n h 1 dX2_takes_71 rfl rfl ?_
      refine c863 hl h dX2_takes_72 hf (Nat.le_of_ble_eq_true rfl) (by decide) (by decide) (fun x20 M19 hf => ?_)
      refine r_icmp_ge (tgt := 117) h dX2_takes_75 (by decide) (fun c21 => ?_) (fun c21 => ?_)
      · have hf := ite_t c21 hf
        exact V.sub [0, 2, 3] rfl hf
      · have hf := ite_f c21 hf
        refine r_iload h 3 dX2_takes_78 rfl ?_
        refine r_if_eq (tgt := 117) h dX2_takes_80 (by decide) (fun c22 => ?_) (fun c22 => ?_)
        · have hf := ite_t c22 hf
          exact V.sub [0, 2, 3] rfl hf
        · have hf := ite_f c22 hf
          refine r_aload_n h 0 dX2_takes_83 rfl rfl ?_
          obtain ⟨k23, hf⟩ := hf
          obtain ⟨b24, e25, hf⟩ := hf
          refine g507 h dX2_takes_84 k23 e25 ?_
          refine r_aload_n h 0 dX2_takes_87 rfl rfl ?_
          refine g517 h dX2_takes_88 k23 ?_
          refine r_iload h 4 dX2_takes_91 rfl ?_
          refine r_iadd h dX2_takes_93 ?_
          obtain ⟨j26, hf⟩ := hf
          refine r_baload h dX2_takes_94 j26 ?_
          refine r_aload_n h 1 dX2_takes_95 rfl rfl ?_
          refine r_iload h 4 dX2_takes_96 rfl ?_
          refine c873 hl h dX2_takes_98 hf (Nat.le_of_ble_eq_true rfl) (by decide) (by decide) (fun x28 M27 hf => ?_)
          refine r_icmp_ne (tgt := 108) h dX2_takes_101 (by decide) (fun c29 => ?_) (fun c29 => ?_)
          · have hf := ite_f c29 hf
            refine r_iconst (v := 0) h dX2_takes_108 (by decide) ?_
            refine r_istore (lv' := [(4, .int 0), (0, .ref v0), (1, .ref v1), (3, .int v3), (5, .int v5)]) h dX2_takes_109 (by decide) rfl ?_
            refine r_iinc (v := v5 + 1) (lv' := [(5, .int (v5 + 1)), (4, .int 0), (0, .ref v0), (1, .ref v1), (3, .int v3)]) h 4 dX2_takes_111 rfl rfl (by decide) rfl ?_
            refine r_goto (tgt := 69) h dX2_takes_114 (by decide) ?_
            exact V.sub [2, 3, 4, 1, 0] rfl hf
          · have hf := ite_t c29 hf
            refine r_iconst (v := 1) h dX2_takes_104 (by decide) ?_
            refine r_goto (tgt := 109) h dX2_takes_105 (by decide) ?_
            refine r_istore (lv' := [(4, .int 1), (0, .ref v0), (1, .ref v1), (3, .int v3), (5, .int v5)]) h dX2_takes_109 (by decide) rfl ?_
            refine r_iinc (v := v5 + 1) (lv' := [(5, .int (v5 + 1)), (4, .int 1), (0, .ref v0), (1, .ref v1), (3, .int v3)]) h 4 dX2_takes_111 rfl rfl (by decide) rfl ?_
            refine r_goto (tgt := 69) h dX2_takes_114 (by decide) ?_
            exact V.sub [2, 3, 4, 1, 0] rfl hf)
    (by
      intro v0 v3 v4 M hf
      show V l G X 0 0 M 117 [(0, .ref v0), (3, .int v3), (4, .int v4)] []
      refine r_iload h 2 dX2_takes_117 rfl ?_
      refine r_if_eq (tgt := 127) h dX2_takes_119 (by decide) (fun c30 => ?_) (fun c30 => ?_)
      · have hf := ite_t c30 hf
        refine r_iload h 2 dX2_takes_127 rfl ?_
        exact r_zreturn h hq dX2_takes_129 hf.1 ⟨_, rfl, hf.2⟩
      · have hf := ite_f c30 hf
        refine r_aload_n h 0 dX2_takes_122 rfl rfl ?_
        refine r_iload_n h 1 dX2_takes_123 rfl rfl ?_
        obtain ⟨k31, hf⟩ := hf
        refine p517 h dX2_takes_124 k31 ?_
        refine r_goW (fun M32 eM32 => ?_)
        have hf := hf M32 eM32
        refine r_iload h 2 dX2_takes_127 rfl ?_
        exact r_zreturn h hq dX2_takes_129 hf.1 ⟨_, rfl, hf.2⟩)
  refine r_aload_n h 0 dX2_takes_0 rfl rfl ?_
  obtain ⟨k1, hf⟩ := hf
  refine c846 hl h dX2_takes_1 k1 hf (Nat.le_of_ble_eq_true rfl) (by decide) (by decide) (fun x3 M2 hf => ?_)
  refine r_istore_n (lv' := [(2, .int x3), (0, .ref a0), (1, .ref a1)]) h dX2_takes_4 rfl (by decide) rfl ?_
  refine r_aload_n h 1 dX2_takes_5 rfl rfl ?_
  obtain ⟨k4, hf⟩ := hf
  refine g517 h dX2_takes_6 k4 ?_
  refine r_istore_n (lv' := [(3, .int (iv M2 a0 8)), (2, .int x3), (0, .ref a0), (1, .ref a1)]) h dX2_takes_9 rfl (by decide) rfl ?_
  exact V.sub [2, 3, 0] rfl hf
theorem c859 {l : Launch} {G : gG} {X : gX} {cc : ByteArray} {nL F L bc bs pc : Nat} {M : gM} {lv : List (Nat × Value)} {rest : List Value} {a0 : Nat} {a1 : Nat} {K : Int32 → gM → Prop} (hl : l.stackTraces = false) (h : hX l G X cc nL "GlacierMail$Reader" F L) (d : decode cc pc = .ok (.invokevirtual 84, 3)) (hk : kd M a0 = some (.inl 2)) (hf : f_X2_takes a0 a1 M K) (hst : (rest.map fun v => v.category).sum ≤ 8) (hF : 5 ≤ F) (hL : 110 ≤ L) (kk : ∀ x M1, K x M1 → V l G X bc bs M1 (pc + 3) lv (.int x :: rest)) : V l G X bc bs M pc lv (.ref a1 :: .ref a0 :: rest) := r_callV (n := 1) (As := [.ref a1]) h (m_X2_takes hl hf) 2 rfl hk rfl ⟨by decide, by decide, by decide +kernel⟩ d q859 q861 qs14 q136 q862 rfl rfl hst hF hL (Nat.zero_le _) (Nat.zero_le _) (kI_go kk) kN_go
def f_X3_isBegun (a0 : Nat) (M : gM) (K : Int32 → gM → Prop) : Prop :=
  kd M a0 = some (.inl 3) ∧ if (((((iv M a0 11) + (iv M a0 12)) + (iv M a0 13)) + (iv M a0 14)) + (iv M a0 15)) ≤ 0 then K 0 M else K 1 M
set_option maxHeartbeats 4000000 in
theorem m_X3_isBegun {l : Launch} (hl : l.stackTraces = false) {G : gG} {a0 : Nat} {M : gM} {K : Int32 → gM → Prop} (hf : f_X3_isBegun a0 M K) : gMet l G yX3_isBegun (ws_ yX3_isBegun cX3_isBegun 1 (some Jvm.ClassFile.FieldType.boolean)) ({ frames := 0, cells := 0, slots := 0, locals := 0 }) M [.ref a0] (kI K) kN := by
  refine gm_of hl (ret := (some Jvm.ClassFile.FieldType.boolean)) rfl (Nat.le_of_ble_eq_true rfl) (fun X h hq => ?_)
  have h : hX l G X cX3_isBegun 1 "GlacierMail$State" 0 0 := h
  have hf := hf
  show V l G X 0 0 M 0 [(0, .ref a0)] []
  unfold f_X3_isBegun at hf
  refine r_aload_n h 0 dX3_isBegun_0 rfl rfl ?_
  obtain ⟨k1, hf⟩ := hf
  refine g348 h dX3_isBegun_1 k1 ?_
  refine r_aload_n h 0 dX3_isBegun_4 rfl rfl ?_
  refine g351 h dX3_isBegun_5 k1 ?_
  refine r_iadd h dX3_isBegun_8 ?_
  refine r_aload_n h 0 dX3_isBegun_9 rfl rfl ?_
  refine g354 h dX3_isBegun_10 k1 ?_
  refine r_iadd h dX3_isBegun_13 ?_
  refine r_aload_n h 0 dX3_isBegun_14 rfl rfl ?_
  refine g357 h dX3_isBegun_15 k1 ?_
  refine r_iadd h dX3_isBegun_18 ?_
  refine r_aload_n h 0 dX3_isBegun_19 rfl rfl ?_
  refine g360 h dX3_isBegun_20 k1 ?_
  refine r_iadd h dX3_isBegun_23 ?_
  refine r_if_le (tgt := 31) h dX3_isBegun_24 (by decide) (fun c2 => ?_) (fun c2 => ?_)
  · have hf := ite_t c2 hf
    refine r_iconst (v := 0) h dX3_isBegun_31 (by decide) ?_
    exact r_zreturn h hq dX3_isBegun_32 (by decide) ⟨_, rfl, hf⟩
  · have hf := ite_f c2 hf
    refine r_iconst (v := 1) h dX3_isBegun_27 (by decide) ?_
    refine r_goto (tgt := 32) h dX3_isBegun_28 (by decide) ?_
    exact r_zreturn h hq dX3_isBegun_32 (by decide) ⟨_, rfl, hf⟩
theorem c911 {l : Launch} {G : gG} {X : gX} {cc : ByteArray} {nL F L bc bs pc : Nat} {M : gM} {lv : List (Nat × Value)} {rest : List Value} {a0 : Nat} {K : Int32 → gM → Prop} (hl : l.stackTraces = false) (h : hX l G X cc nL "GlacierMail$Reader" F L) (d : decode cc pc = .ok (.invokevirtual 126, 3)) (hk : kd M a0 = some (.inl 3)) (hf : f_X3_isBegun a0 M K) (hst : (rest.map fun v => v.category).sum ≤ 8) (hF : 1 ≤ F) (hL : 20 ≤ L) (kk : ∀ x M1, K x M1 → V l G X bc bs M1 (pc + 3) lv (.int x :: rest)) : V l G X bc bs M pc lv (.ref a0 :: rest) := r_callV (n := 0) (As := []) h (m_X3_isBegun hl hf) 3 rfl hk rfl ⟨by decide, by decide, by decide +kernel⟩ d q911 q912 q913 q137 q914 rfl rfl hst hF hL (Nat.zero_le _) (Nat.zero_le _) (kI_go kk) kN_go
def f_X2_number (a0 : Nat) (a1 : Int32) (a2 : Int32) (M : gM) (K : Int32 → gM → Prop) (KX : Addr → String → gM → Prop) : Prop :=
  ∀ P14 : Nat → Int32 → Int32 → Int32 → Int32 → gM → Prop,
  ∀ P73 : Nat → Int32 → Int32 → Int32 → Int32 → gM → Prop,
  ∀ P106 : Nat → Int32 → Int32 → Int32 → Int32 → gM → Prop,
  (∀ (v0 : Nat) (v1 : Int32) (v2 : Int32) (v4 : Int32) (v5 : Int32) (M : gM), (kd M v0 = some (.inl 2) ∧ if (iv M v0 7) ≤ (iv M v0 8) then P106 v0 v1 v2 v4 v5 M else ∃ b7, rv M v0 0 = some b7 ∧ inA M b7 1 (iv M v0 8) ∧ if (iv M b7 (ix (iv M v0 8))) < 48 then P106 v0 v1 v2 v4 v5 M else ∃ b11, rv M v0 0 = some b11 ∧ inA M b11 1 (iv M v0 8) ∧ if 57 < (iv M b11 (ix (iv M v0 8))) then P106 v0 v1 v2 v4 v5 M else if ((iv M v0 8) - v4) = (iv M v0 10) then f_X2_fail v0 v4 M (fun M16 => P73 v0 v1 v2 v4 v5 M16) KX else P73 v0 v1 v2 v4 v5 M) → P14 v0 v1 v2 v4 v5 M) →
  (∀ (v0 : Nat) (v1 : Int32) (v2 : Int32) (v4 : Int32) (v5 : Int32) (M : gM), (kd M v0 = some (.inl 2) ∧ ∃ b18, rv M v0 0 = some b18 ∧ inA M b18 1 (iv M v0 8) ∧ ∀ M21, M21 = sI M v0 8 ((iv M v0 8) + 1) → P14 v0 v1 v2 v4 ((((10 : Int32) * v5) + (iv M b18 (ix (iv M v0 8)))) - 48) M21) → P73 v0 v1 v2 v4 v5 M) →
  (∀ (v0 : Nat) (v1 : Int32) (v2 : Int32) (v4 : Int32) (v5 : Int32) (M : gM), (kd M v0 = some (.inl 2) ∧ if (iv M v0 8) = v4 then f_X2_fail v0 v4 M (fun M24 => K v5 M24) KX else if v5 < v1 then f_X2_fail v0 v4 M (fun M26 => K v5 M26) KX else if v5 ≤ v2 then K v5 M else f_X2_fail v0 v4 M (fun M28 => K v5 M28) KX) → P106 v0 v1 v2 v4 v5 M) →
  kd M a0 = some (.inl 2) ∧ f_X2_sign a0 M (fun x3 M2 => kd M2 a0 = some (.inl 2) ∧ P14 a0 a1 a2 (iv M2 a0 8) 0 M2)
set_option maxHeartbeats 4000000 in
theorem m_X2_number {l : Launch} (hl : l.stackTraces = false) {G : gG} {a0 : Nat} {a1 : Int32} {a2 : Int32} {M : gM} {K : Int32 → gM → Prop} {KX : Addr → String → gM → Prop} (hf : f_X2_number a0 a1 a2 M K KX) : gMet l G yX2_number (ws_ yX2_number cX2_number 6 (some Jvm.ClassFile.FieldType.int)) ({ frames := 1, cells := 0, slots := 0, locals := 21 }) M [.ref a0, .int a1, .int a2] (kI K) KX := by
  refine gm_of hl (ret := (some Jvm.ClassFile.FieldType.int)) rfl (Nat.le_of_ble_eq_true rfl) (fun X h hq => ?_)
  have h : hX l G X cX2_number 6 "GlacierMail$Reader" 1 21 := h
  have hf := hf
  show V l G X 0 0 M 0 [(0, .ref a0), (1, .int a1), (2, .int a2)] []
  have hf := hf
    (fun v0 v1 v2 v4 v5 M => V l G X 0 0 M 14 [(0, .ref v0), (1, .int v1), (2, .int v2), (4, .int v4), (5, .int v5)] [])
    (fun v0 v1 v2 v4 v5 M => V l G X 0 0 M 73 [(0, .ref v0), (1, .int v1), (2, .int v2), (4, .int v4), (5, .int v5)] [])
    (fun v0 v1 v2 v4 v5 M => V l G X 0 0 M 106 [(0, .ref v0), (1, .int v1), (2, .int v2), (4, .int v4), (5, .int v5)] [])
    (by
      intro v0 v1 v2 v4 v5 M hf
      show V l G X 0 0 M 14 [(0, .ref v0), (1, .int v1), (2, .int v2), (4, .int v4), (5, .int v5)] []
      refine r_aload_n h 0 dX2_number_14 rfl rfl ?_
      obtain ⟨k5, hf⟩ := hf
      refine g517 h dX2_number_15 k5 ?_
      refine r_aload_n h 0 dX2_number_18 rfl rfl ?_
      refine g516 h dX2_number_19 k5 ?_
      refine r_icmp_ge (tgt := 106) h dX2_number_22 (by decide) (fun c6 => ?_) (fun c6 => ?_)
      · have hf := ite_t c6 hf
        exact V.sub [0, 1, 2, 3, 4] rfl hf
      · have hf := ite_f c6 hf
        refine r_aload_n h 0 dX2_number_25 rfl rfl ?_
        obtain ⟨b7, e8, hf⟩ := hf
        refine g507 h dX2_number_26 k5 e8 ?_
        refine r_aload_n h 0 dX2_number_29 rfl rfl ?_
        refine g517 h dX2_number_30 k5 ?_
        obtain ⟨j9, hf⟩ := hf
        refine r_baload h dX2_number_33 j9 ?_
        refine r_bipush (v := 48) h dX2_number_34 (by decide) ?_
        refine r_icmp_lt (tgt := 106) h dX2_number_36 (by decide) (fun c10 => ?_) (fun c10 => ?_)
        · have hf := ite_t c10 hf
          exact V.sub [0, 1, 2, 3, 4] rfl hf
        · have hf := ite_f c10 hf
          refine r_aload_n h 0 dX2_number_39 rfl rfl ?_
          obtain ⟨b11, e12, hf⟩ := hf
          refine g507 h dX2_number_40 k5 e12 ?_
          refine r_aload_n h 0 dX2_number_43 rfl rfl ?_
          refine g517 h dX2_number_44 k5 ?_
          obtain ⟨j13, hf⟩ := hf
          refine r_baload h dX2_number_47 j13 ?_
          refine r_bipush (v := 57) h dX2_number_48 (by decide) ?_
          refine r_icmp_gt (tgt := 106) h dX2_number_50 (by decide) (fun c14 => ?_) (fun c14 => ?_)
          · have hf := ite_t c14 hf
            exact V.sub [0, 1, 2, 3, 4] rfl hf
          · have hf := ite_f c14 hf
            refine r_aload_n h 0 dX2_number_53 rfl rfl ?_
            refine g517 h dX2_number_54 k5 ?_
            refine r_iload h 3 dX2_number_57 rfl ?_
            refine r_isub h dX2_number_59 ?_
            refine r_aload_n h 0 dX2_number_60 rfl rfl ?_
            refine g519 h dX2_number_61 k5 ?_
            refine r_icmp_ne (tgt := 73) h dX2_number_64 (by decide) (fun c15 => ?_) (fun c15 => ?_)
            · have hf := ite_f c15 hf
              exact V.sub [0, 1, 2, 3, 4] rfl hf
            · have hf := ite_t c15 hf
              refine r_aload_n h 0 dX2_number_67 rfl rfl ?_
              refine r_iload h 3 dX2_number_68 rfl ?_
              refine c850 hl h dX2_number_70 k5 hf (Nat.le_of_ble_eq_true rfl) (by decide) (by decide) (fun M16 hf => ?_) (fun q9 E9 M9 hf => r_out h hq hf)
              exact V.sub [0, 1, 2, 3, 4] rfl hf)
    (by
      intro v0 v1 v2 v4 v5 M hf
      show V l G X 0 0 M 73 [(0, .ref v0), (1, .int v1), (2, .int v2), (4, .int v4), (5, .int v5)] []
      refine r_bipush (v := 10) h dX2_number_73 (by decide) ?_
      refine r_iload h 4 dX2_number_75 rfl ?_
      refine r_imul h dX2_number_77 ?_
      refine r_aload_n h 0 dX2_number_78 rfl rfl ?_
      obtain ⟨k17, hf⟩ := hf
      obtain ⟨b18, e19, hf⟩ := hf
      refine g507 h dX2_number_79 k17 e19 ?_
      refine r_aload_n h 0 dX2_number_82 rfl rfl ?_
      refine g517 h dX2_number_83 k17 ?_
      obtain ⟨j20, hf⟩ := hf
      refine r_baload h dX2_number_86 j20 ?_
      refine r_iadd h dX2_number_87 ?_
      refine r_bipush (v := 48) h dX2_number_88 (by decide) ?_
      refine r_isub h dX2_number_90 ?_
      refine r_istore (lv' := [(5, .int ((((10 : Int32) * v5) + (iv M b18 (ix (iv M v0 8)))) - 48)), (0, .ref v0), (1, .int v1), (2, .int v2), (4, .int v4)]) h dX2_number_91 (by decide) rfl ?_
      refine r_aload_n h 1 dX2_number_93 rfl rfl ?_
      refine r_dup h dX2_number_94 rfl ?_
      refine g517 h dX2_number_95 k17 ?_
      refine r_iconst (v := 1) h dX2_number_98 (by decide) ?_
      refine r_iadd h dX2_number_99 ?_
      refine p517 h dX2_number_100 k17 ?_
      refine r_goW (fun M21 eM21 => ?_)
      have hf := hf M21 eM21
      refine r_goto (tgt := 14) h dX2_number_103 (by decide) ?_
      exact V.sub [1, 2, 3, 4, 0] rfl hf)
    (by
      intro v0 v1 v2 v4 v5 M hf
      show V l G X 0 0 M 106 [(0, .ref v0), (1, .int v1), (2, .int v2), (4, .int v4), (5, .int v5)] []
      refine r_aload_n h 0 dX2_number_106 rfl rfl ?_
      obtain ⟨k22, hf⟩ := hf
      refine g517 h dX2_number_107 k22 ?_
      refine r_iload h 3 dX2_number_110 rfl ?_
      refine r_icmp_eq (tgt := 127) h dX2_number_112 (by decide) (fun c23 => ?_) (fun c23 => ?_)
      · have hf := ite_t c23 hf
        refine r_aload_n h 0 dX2_number_127 rfl rfl ?_
        refine r_iload h 3 dX2_number_128 rfl ?_
        refine c850 hl h dX2_number_130 k22 hf (Nat.le_of_ble_eq_true rfl) (by decide) (by decide) (fun M24 hf => ?_) (fun q9 E9 M9 hf => r_out h hq hf)
        refine r_iload h 4 dX2_number_133 rfl ?_
        exact r_ireturn h hq dX2_number_135 ⟨_, rfl, hf⟩
      · have hf := ite_f c23 hf
        refine r_iload h 4 dX2_number_115 rfl ?_
        refine r_iload_n h 1 dX2_number_117 rfl rfl ?_
        refine r_icmp_lt (tgt := 127) h dX2_number_118 (by decide) (fun c25 => ?_) (fun c25 => ?_)
        · have hf := ite_t c25 hf
          refine r_aload_n h 0 dX2_number_127 rfl rfl ?_
          refine r_iload h 3 dX2_number_128 rfl ?_
          refine c850 hl h dX2_number_130 k22 hf (Nat.le_of_ble_eq_true rfl) (by decide) (by decide) (fun M26 hf => ?_) (fun q9 E9 M9 hf => r_out h hq hf)
          refine r_iload h 4 dX2_number_133 rfl ?_
          exact r_ireturn h hq dX2_number_135 ⟨_, rfl, hf⟩
        · have hf := ite_f c25 hf
          refine r_iload h 4 dX2_number_121 rfl ?_
          refine r_iload_n h 2 dX2_number_123 rfl rfl ?_
          refine r_icmp_le (tgt := 133) h dX2_number_124 (by decide) (fun c27 => ?_) (fun c27 => ?_)
          · have hf := ite_t c27 hf
            refine r_iload h 4 dX2_number_133 rfl ?_
            exact r_ireturn h hq dX2_number_135 ⟨_, rfl, hf⟩
          · have hf := ite_f c27 hf
            refine r_aload_n h 0 dX2_number_127 rfl rfl ?_
            refine r_iload h 3 dX2_number_128 rfl ?_
            refine c850 hl h dX2_number_130 k22 hf (Nat.le_of_ble_eq_true rfl) (by decide) (by decide) (fun M28 hf => ?_) (fun q9 E9 M9 hf => r_out h hq hf)
            refine r_iload h 4 dX2_number_133 rfl ?_
            exact r_ireturn h hq dX2_number_135 ⟨_, rfl, hf⟩)
  refine r_aload_n h 0 dX2_number_0 rfl rfl ?_
  obtain ⟨k1, hf⟩ := hf
  refine c846 hl h dX2_number_1 k1 hf (Nat.le_of_ble_eq_true rfl) (by decide) (by decide) (fun x3 M2 hf => ?_)
  refine r_istore_n (lv' := [(3, .int x3), (0, .ref a0), (1, .int a1), (2, .int a2)]) h dX2_number_4 rfl (by decide) rfl ?_
  refine r_aload_n h 1 dX2_number_5 rfl rfl ?_
  obtain ⟨k4, hf⟩ := hf
  refine g517 h dX2_number_6 k4 ?_
  refine r_istore (lv' := [(4, .int (iv M2 a0 8)), (3, .int x3), (0, .ref a0), (1, .int a1), (2, .int a2)]) h dX2_number_9 (by decide) rfl ?_
  refine r_iconst (v := 0) h dX2_number_11 (by decide) ?_
  refine r_istore (lv' := [(5, .int 0), (4, .int (iv M2 a0 8)), (3, .int x3), (0, .ref a0), (1, .int a1), (2, .int a2)]) h dX2_number_12 (by decide) rfl ?_
  exact V.sub [3, 4, 5, 1, 0] rfl hf
theorem c915 {l : Launch} {G : gG} {X : gX} {cc : ByteArray} {nL F L bc bs pc : Nat} {M : gM} {lv : List (Nat × Value)} {rest : List Value} {a0 : Nat} {a1 : Int32} {a2 : Int32} {K : Int32 → gM → Prop} {KX : Addr → String → gM → Prop} (hl : l.stackTraces = false) (h : hX l G X cc nL "GlacierMail$Reader" F L) (d : decode cc pc = .ok (.invokevirtual 118, 3)) (hk : kd M a0 = some (.inl 2)) (hf : f_X2_number a0 a1 a2 M K KX) (hst : (rest.map fun v => v.category).sum ≤ 8) (hF : 2 ≤ F) (hL : 46 ≤ L) (kk : ∀ x M1, K x M1 → V l G X bc bs M1 (pc + 3) lv (.int x :: rest)) (kx : ∀ q E M1, KX q E M1 → VX l G X bc bs M1 pc lv q E) : V l G X bc bs M pc lv (.int a2 :: .int a1 :: .ref a0 :: rest) := r_callV (n := 2) (As := [.int a1, .int a2]) h (m_X2_number hl hf) 2 rfl hk rfl ⟨by decide, by decide, by decide +kernel⟩ d q915 q917 qs15 q136 q918 rfl rfl hst hF hL (Nat.zero_le _) (Nat.zero_le _) (kI_go kk) kx
def f_X2_speeds (a0 : Nat) (a1 : Nat) (M : gM) (K : gM → Prop) (KX : Addr → String → gM → Prop) : Prop :=
  ∀ P2 : Nat → Nat → Int32 → gM → Prop,
  (∀ (v0 : Nat) (v1 : Nat) (v2 : Int32) (M : gM), (kd M v0 = some (.inl 2) ∧ ∃ b2, rv M v0 4 = some b2 ∧ kd M b2 = some (.inl 3) ∧ if (iv M b2 9) ≤ v2 then K M else kd M v1 = some (.inl 4) ∧ ∃ b7, rv M v1 0 = some b7 ∧ f_X2_number v0 0 20 M (fun x10 M9 => inA M9 b7 0 v2 ∧ ∀ M12, M12 = sI M9 b7 (ix v2) x10 → P2 v0 v1 (v2 + 1) M12) KX) → P2 v0 v1 v2 M) →
  P2 a0 a1 0 M
set_option maxHeartbeats 4000000 in
theorem m_X2_speeds {l : Launch} (hl : l.stackTraces = false) {G : gG} {a0 : Nat} {a1 : Nat} {M : gM} {K : gM → Prop} {KX : Addr → String → gM → Prop} (hf : f_X2_speeds a0 a1 M K KX) : gMet l G yX2_speeds (ws_ yX2_speeds cX2_speeds 3 none) ({ frames := 2, cells := 0, slots := 0, locals := 46 }) M [.ref a0, .ref a1] (kV K) KX := by
  refine gm_of hl (ret := none) rfl (Nat.le_of_ble_eq_true rfl) (fun X h hq => ?_)
  have h : hX l G X cX2_speeds 3 "GlacierMail$Reader" 2 46 := h
  have hf := hf
  show V l G X 0 0 M 0 [(0, .ref a0), (1, .ref a1)] []
  have hf := hf
    (fun v0 v1 v2 M => V l G X 0 0 M 2 [(0, .ref v0), (1, .ref v1), (2, .int v2)] [])
    (by
      intro v0 v1 v2 M hf
      show V l G X 0 0 M 2 [(0, .ref v0), (1, .ref v1), (2, .int v2)] []
      refine r_iload_n h 2 dX2_speeds_2 rfl rfl ?_
      refine r_aload_n h 0 dX2_speeds_3 rfl rfl ?_
      obtain ⟨k1, hf⟩ := hf
      obtain ⟨b2, e3, hf⟩ := hf
      refine g513 h dX2_speeds_4 k1 e3 ?_
      obtain ⟨k4, hf⟩ := hf
      refine g343 h dX2_speeds_7 k4 ?_
      refine r_icmp_ge (tgt := 32) h dX2_speeds_10 (by decide) (fun c5 => ?_) (fun c5 => ?_)
      · have hf := ite_t c5 hf
        exact r_return h hq dX2_speeds_32 ⟨rfl, hf⟩
      · have hf := ite_f c5 hf
        refine r_aload_n h 1 dX2_speeds_13 rfl rfl ?_
        obtain ⟨k6, hf⟩ := hf
        obtain ⟨b7, e8, hf⟩ := hf
        refine g219 h dX2_speeds_14 k6 e8 ?_
        refine r_iload_n h 2 dX2_speeds_17 rfl rfl ?_
        refine r_aload_n h 0 dX2_speeds_18 rfl rfl ?_
        refine r_iconst (v := 0) h dX2_speeds_19 (by decide) ?_
        refine r_bipush (v := 20) h dX2_speeds_20 (by decide) ?_
        refine c915 hl h dX2_speeds_22 k1 hf (Nat.le_of_ble_eq_true rfl) (by decide) (by decide) (fun x10 M9 hf => ?_) (fun q9 E9 M9 hf => r_out h hq hf)
        obtain ⟨j11, hf⟩ := hf
        refine r_iastore h dX2_speeds_25 j11 ?_
        refine r_goW (fun M12 eM12 => ?_)
        have hf := hf M12 eM12
        refine r_iinc (v := v2 + 1) (lv' := [(2, .int (v2 + 1)), (0, .ref v0), (1, .ref v1)]) h 2 dX2_speeds_26 rfl rfl (by decide) rfl ?_
        refine r_goto (tgt := 2) h dX2_speeds_29 (by decide) ?_
        exact V.sub [1, 2, 0] rfl hf)
  refine r_iconst (v := 0) h dX2_speeds_0 (by decide) ?_
  refine r_istore_n (lv' := [(2, .int 0), (0, .ref a0), (1, .ref a1)]) h dX2_speeds_1 rfl (by decide) rfl ?_
  exact V.sub [1, 2, 0] rfl hf
theorem c925 {l : Launch} {G : gG} {X : gX} {cc : ByteArray} {nL F L bc bs pc : Nat} {M : gM} {lv : List (Nat × Value)} {rest : List Value} {a0 : Nat} {a1 : Nat} {K : gM → Prop} {KX : Addr → String → gM → Prop} (hl : l.stackTraces = false) (h : hX l G X cc nL "GlacierMail$Reader" F L) (d : decode cc pc = .ok (.invokevirtual 195, 3)) (hk : kd M a0 = some (.inl 2)) (hf : f_X2_speeds a0 a1 M K KX) (hst : (rest.map fun v => v.category).sum ≤ 8) (hF : 3 ≤ F) (hL : 68 ≤ L) (kk : ∀ M1, K M1 → V l G X bc bs M1 (pc + 3) lv rest) (kx : ∀ q E M1, KX q E M1 → VX l G X bc bs M1 pc lv q E) : V l G X bc bs M pc lv (.ref a1 :: .ref a0 :: rest) := r_callV (n := 1) (As := [.ref a1]) h (m_X2_speeds hl hf) 2 rfl hk rfl ⟨by decide, by decide, by decide +kernel⟩ d q925 q927 qs17 q136 q928 rfl rfl hst hF hL (Nat.zero_le _) (Nat.zero_le _) (kV_go kk) kx
def f_X2_addSection (a0 : Nat) (a1 : Int32) (M : gM) (K : gM → Prop) (KX : Addr → String → gM → Prop) : Prop :=
  ∀ P19 : Nat → Int32 → gM → Prop,
  ∀ P72 : Nat → Nat → Int32 → Nat → gM → Prop,
  (∀ (v0 : Nat) (v2 : Int32) (M : gM), (kd M v0 = some (.inl 2) ∧ ∃ b8, rv M v0 4 = some b8 ∧ kd M b8 = some (.inl 3) ∧ ∃ b11, rv M b8 0 = some b11 ∧ inA M b11 5 v2 ∧ ∃ b14, rv M b11 (ix v2) = some b14 ∧ if v2 = 0 then f_X2_number v0 0 0 M (fun x32 M31 => P72 v0 b14 x32 b14 M31) KX else ∃ b17, rv M v0 4 = some b17 ∧ kd M b17 = some (.inl 3) ∧ ∃ b20, rv M b17 0 = some b20 ∧ inA M b20 5 (v2 - 1) ∧ ∃ b23, rv M b20 (ix (v2 - 1)) = some b23 ∧ kd M b23 = some (.inl 4) ∧ ∃ b26, rv M v0 4 = some b26 ∧ kd M b26 = some (.inl 3) ∧ f_X2_number v0 ((iv M b23 1) + 1) ((iv M b26 10) - 1) M (fun x30 M29 => P72 v0 b14 x30 b14 M29) KX) → P19 v0 v2 M) →
  (∀ (v0 : Nat) (v3 : Nat) (s0 : Int32) (s1 : Nat) (M : gM), (kd M s1 = some (.inl 4) ∧ ∀ M34, M34 = sI M s1 1 s0 → kd M34 v0 = some (.inl 2) ∧ f_X2_speeds v0 v3 M34 (fun M36 => kd M36 v0 = some (.inl 2) ∧ ∃ b38, rv M36 v0 4 = some b38 ∧ kd M36 b38 = some (.inl 3) ∧ ∀ M41, M41 = sI M36 b38 11 ((iv M36 b38 11) + 1) → K M41) KX) → P72 v0 v3 s0 s1 M) →
  kd M a0 = some (.inl 2) ∧ ∃ b2, rv M a0 4 = some b2 ∧ kd M b2 = some (.inl 3) ∧ if (iv M b2 11) = 8 then f_X2_fail a0 a1 M (fun M6 => P19 a0 (iv M b2 11) M6) KX else P19 a0 (iv M b2 11) M
set_option maxHeartbeats 4000000 in
theorem m_X2_addSection {l : Launch} (hl : l.stackTraces = false) {G : gG} {a0 : Nat} {a1 : Int32} {M : gM} {K : gM → Prop} {KX : Addr → String → gM → Prop} (hf : f_X2_addSection a0 a1 M K KX) : gMet l G yX2_addSection (ws_ yX2_addSection cX2_addSection 4 none) ({ frames := 3, cells := 0, slots := 0, locals := 68 }) M [.ref a0, .int a1] (kV K) KX := by
  refine gm_of hl (ret := none) rfl (Nat.le_of_ble_eq_true rfl) (fun X h hq => ?_)
  have h : hX l G X cX2_addSection 4 "GlacierMail$Reader" 3 68 := h
  have hf := hf
  show V l G X 0 0 M 0 [(0, .ref a0), (1, .int a1)] []
  have hf := hf
    (fun v0 v2 M => V l G X 0 0 M 19 [(0, .ref v0), (2, .int v2)] [])
    (fun v0 v3 s0 s1 M => V l G X 0 0 M 72 [(0, .ref v0), (3, .ref v3)] [.int s0, .ref s1])
    (by
      intro v0 v2 M hf
      show V l G X 0 0 M 19 [(0, .ref v0), (2, .int v2)] []
      refine r_aload_n h 0 dX2_addSection_19 rfl rfl ?_
      obtain ⟨k7, hf⟩ := hf
      obtain ⟨b8, e9, hf⟩ := hf
      refine g513 h dX2_addSection_20 k7 e9 ?_
      obtain ⟨k10, hf⟩ := hf
      obtain ⟨b11, e12, hf⟩ := hf
      refine g321 h dX2_addSection_23 k10 e12 ?_
      refine r_iload_n h 1 dX2_addSection_26 rfl rfl ?_
      obtain ⟨j13, b14, e15, hf⟩ := hf
      refine r_aaload h 5 (by decide) (by decide) dX2_addSection_27 j13 (v := .ref b14) (by rw [e15]; rfl) ?_
      refine r_astore_n (lv' := [(3, .ref b14), (0, .ref v0), (2, .int v2)]) h dX2_addSection_28 rfl (by decide) rfl ?_
      refine r_aload_n h 0 dX2_addSection_29 rfl rfl ?_
      refine r_iload_n h 2 dX2_addSection_30 rfl rfl ?_
      refine r_if_ne (tgt := 43) h dX2_addSection_31 (by decide) (fun c16 => ?_) (fun c16 => ?_)
      · have hf := ite_f c16 hf
        refine r_aload_n h 1 dX2_addSection_43 rfl rfl ?_
        refine r_aload_n h 1 dX2_addSection_44 rfl rfl ?_
        obtain ⟨b17, e18, hf⟩ := hf
        refine g513 h dX2_addSection_45 k7 e18 ?_
        obtain ⟨k19, hf⟩ := hf
        obtain ⟨b20, e21, hf⟩ := hf
        refine g321 h dX2_addSection_48 k19 e21 ?_
        refine r_iload_n h 2 dX2_addSection_51 rfl rfl ?_
        refine r_iconst (v := 1) h dX2_addSection_52 (by decide) ?_
        refine r_isub h dX2_addSection_53 ?_
        obtain ⟨j22, b23, e24, hf⟩ := hf
        refine r_aaload h 5 (by decide) (by decide) dX2_addSection_54 j22 (v := .ref b23) (by rw [e24]; rfl) ?_
        obtain ⟨k25, hf⟩ := hf
        refine g223 h dX2_addSection_55 k25 ?_
        refine r_iconst (v := 1) h dX2_addSection_58 (by decide) ?_
        refine r_iadd h dX2_addSection_59 ?_
        refine r_aload_n h 1 dX2_addSection_60 rfl rfl ?_
        obtain ⟨b26, e27, hf⟩ := hf
        refine g513 h dX2_addSection_61 k7 e27 ?_
        obtain ⟨k28, hf⟩ := hf
        refine g347 h dX2_addSection_64 k28 ?_
        refine r_iconst (v := 1) h dX2_addSection_67 (by decide) ?_
        refine r_isub h dX2_addSection_68 ?_
        refine c915 hl h dX2_addSection_69 k7 hf (Nat.le_of_ble_eq_true rfl) (by decide) (by decide) (fun x30 M29 hf => ?_) (fun q9 E9 M9 hf => r_out h hq hf)
        exact V.sub [1, 0] rfl hf
      · have hf := ite_t c16 hf
        refine r_aload_n h 1 dX2_addSection_34 rfl rfl ?_
        refine r_iconst (v := 0) h dX2_addSection_35 (by decide) ?_
        refine r_iconst (v := 0) h dX2_addSection_36 (by decide) ?_
        refine c915 hl h dX2_addSection_37 k7 hf (Nat.le_of_ble_eq_true rfl) (by decide) (by decide) (fun x32 M31 hf => ?_) (fun q9 E9 M9 hf => r_out h hq hf)
        refine r_goto (tgt := 72) h dX2_addSection_40 (by decide) ?_
        exact V.sub [1, 0] rfl hf)
    (by
      intro v0 v3 s0 s1 M hf
      show V l G X 0 0 M 72 [(0, .ref v0), (3, .ref v3)] [.int s0, .ref s1]
      obtain ⟨k33, hf⟩ := hf
      refine p223 h dX2_addSection_72 k33 ?_
      refine r_goW (fun M34 eM34 => ?_)
      have hf := hf M34 eM34
      refine r_aload_n h 0 dX2_addSection_75 rfl rfl ?_
      refine r_aload_n h 1 dX2_addSection_76 rfl rfl ?_
      obtain ⟨k35, hf⟩ := hf
      refine c925 hl h dX2_addSection_77 k35 hf (Nat.le_of_ble_eq_true rfl) (by decide) (by decide) (fun M36 hf => ?_) (fun q9 E9 M9 hf => r_out h hq hf)
      refine r_aload_n h 0 dX2_addSection_80 rfl rfl ?_
      obtain ⟨k37, hf⟩ := hf
      obtain ⟨b38, e39, hf⟩ := hf
      refine g513 h dX2_addSection_81 k37 e39 ?_
      refine r_dup h dX2_addSection_84 rfl ?_
      obtain ⟨k40, hf⟩ := hf
      refine g349 h dX2_addSection_85 k40 ?_
      refine r_iconst (v := 1) h dX2_addSection_88 (by decide) ?_
      refine r_iadd h dX2_addSection_89 ?_
      refine p349 h dX2_addSection_90 k40 ?_
      refine r_goW (fun M41 eM41 => ?_)
      have hf := hf M41 eM41
      exact r_return h hq dX2_addSection_93 ⟨rfl, hf⟩)
  refine r_aload_n h 0 dX2_addSection_0 rfl rfl ?_
  obtain ⟨k1, hf⟩ := hf
  obtain ⟨b2, e3, hf⟩ := hf
  refine g513 h dX2_addSection_1 k1 e3 ?_
  obtain ⟨k4, hf⟩ := hf
  refine g349 h dX2_addSection_4 k4 ?_
  refine r_istore_n (lv' := [(2, .int (iv M b2 11)), (0, .ref a0), (1, .int a1)]) h dX2_addSection_7 rfl (by decide) rfl ?_
  refine r_iload_n h 0 dX2_addSection_8 rfl rfl ?_
  refine r_bipush (v := 8) h dX2_addSection_9 (by decide) ?_
  refine r_icmp_ne (tgt := 19) h dX2_addSection_11 (by decide) (fun c5 => ?_) (fun c5 => ?_)
  · have hf := ite_f c5 hf
    exact V.sub [1, 0] rfl hf
  · have hf := ite_t c5 hf
    refine r_aload_n h 1 dX2_addSection_14 rfl rfl ?_
    refine r_iload_n h 2 dX2_addSection_15 rfl rfl ?_
    refine c850 hl h dX2_addSection_16 k1 hf (Nat.le_of_ble_eq_true rfl) (by decide) (by decide) (fun M6 hf => ?_) (fun q9 E9 M9 hf => r_out h hq hf)
    exact V.sub [1, 0] rfl hf
theorem c921 {l : Launch} {G : gG} {X : gX} {cc : ByteArray} {nL F L bc bs pc : Nat} {M : gM} {lv : List (Nat × Value)} {rest : List Value} {a0 : Nat} {a1 : Int32} {K : gM → Prop} {KX : Addr → String → gM → Prop} (hl : l.stackTraces = false) (h : hX l G X cc nL "GlacierMail$Reader" F L) (d : decode cc pc = .ok (.invokevirtual 139, 3)) (hk : kd M a0 = some (.inl 2)) (hf : f_X2_addSection a0 a1 M K KX) (hst : (rest.map fun v => v.category).sum ≤ 8) (hF : 4 ≤ F) (hL : 91 ≤ L) (kk : ∀ M1, K M1 → V l G X bc bs M1 (pc + 3) lv rest) (kx : ∀ q E M1, KX q E M1 → VX l G X bc bs M1 pc lv q E) : V l G X bc bs M pc lv (.int a1 :: .ref a0 :: rest) := r_callV (n := 1) (As := [.int a1]) h (m_X2_addSection hl hf) 2 rfl hk rfl ⟨by decide, by decide, by decide +kernel⟩ d q921 q923 qs16 q136 q924 rfl rfl hst hF hL (Nat.zero_le _) (Nat.zero_le _) (kV_go kk) kx
def f_X2_place (a0 : Nat) (M : gM) (K : Int32 → gM → Prop) (KX : Addr → String → gM → Prop) : Prop :=
  kd M a0 = some (.inl 2) ∧ ∃ b2, rv M a0 4 = some b2 ∧ kd M b2 = some (.inl 3) ∧ f_X2_number a0 0 ((iv M b2 10) - 1) M (fun x6 M5 => K x6 M5) KX
set_option maxHeartbeats 4000000 in
theorem m_X2_place {l : Launch} (hl : l.stackTraces = false) {G : gG} {a0 : Nat} {M : gM} {K : Int32 → gM → Prop} {KX : Addr → String → gM → Prop} (hf : f_X2_place a0 M K KX) : gMet l G yX2_place (ws_ yX2_place cX2_place 1 (some Jvm.ClassFile.FieldType.int)) ({ frames := 2, cells := 0, slots := 0, locals := 46 }) M [.ref a0] (kI K) KX := by
  refine gm_of hl (ret := (some Jvm.ClassFile.FieldType.int)) rfl (Nat.le_of_ble_eq_true rfl) (fun X h hq => ?_)
  have h : hX l G X cX2_place 1 "GlacierMail$Reader" 2 46 := h
  have hf := hf
  show V l G X 0 0 M 0 [(0, .ref a0)] []
  unfold f_X2_place at hf
  refine r_aload_n h 0 dX2_place_0 rfl rfl ?_
  refine r_iconst (v := 0) h dX2_place_1 (by decide) ?_
  refine r_aload_n h 0 dX2_place_2 rfl rfl ?_
  obtain ⟨k1, hf⟩ := hf
  obtain ⟨b2, e3, hf⟩ := hf
  refine g513 h dX2_place_3 k1 e3 ?_
  obtain ⟨k4, hf⟩ := hf
  refine g347 h dX2_place_6 k4 ?_
  refine r_iconst (v := 1) h dX2_place_9 (by decide) ?_
  refine r_isub h dX2_place_10 ?_
  refine c915 hl h dX2_place_11 k1 hf (Nat.le_of_ble_eq_true rfl) (by decide) (by decide) (fun x6 M5 hf => ?_) (fun q9 E9 M9 hf => r_out h hq hf)
  exact r_ireturn h hq dX2_place_14 ⟨_, rfl, hf⟩
theorem c930 {l : Launch} {G : gG} {X : gX} {cc : ByteArray} {nL F L bc bs pc : Nat} {M : gM} {lv : List (Nat × Value)} {rest : List Value} {a0 : Nat} {K : Int32 → gM → Prop} {KX : Addr → String → gM → Prop} (hl : l.stackTraces = false) (h : hX l G X cc nL "GlacierMail$Reader" F L) (d : decode cc pc = .ok (.invokevirtual 143, 3)) (hk : kd M a0 = some (.inl 2)) (hf : f_X2_place a0 M K KX) (hst : (rest.map fun v => v.category).sum ≤ 8) (hF : 3 ≤ F) (hL : 66 ≤ L) (kk : ∀ x M1, K x M1 → V l G X bc bs M1 (pc + 3) lv (.int x :: rest)) (kx : ∀ q E M1, KX q E M1 → VX l G X bc bs M1 pc lv q E) : V l G X bc bs M pc lv (.ref a0 :: rest) := r_callV (n := 0) (As := []) h (m_X2_place hl hf) 2 rfl hk rfl ⟨by decide, by decide, by decide +kernel⟩ d q930 q932 qs18 q136 q933 rfl rfl hst hF hL (Nat.zero_le _) (Nat.zero_le _) (kI_go kk) kx
def f_X2_expect (a0 : Nat) (a1 : Nat) (M : gM) (K : gM → Prop) (KX : Addr → String → gM → Prop) : Prop :=
  kd M a0 = some (.inl 2) ∧ f_X2_takes a0 a1 M (fun x3 M2 => if x3 = 0 then kd M2 a0 = some (.inl 2) ∧ f_X2_fail a0 (iv M2 a0 8) M2 (fun M6 => K M6) KX else K M2)
set_option maxHeartbeats 4000000 in
theorem m_X2_expect {l : Launch} (hl : l.stackTraces = false) {G : gG} {a0 : Nat} {a1 : Nat} {M : gM} {K : gM → Prop} {KX : Addr → String → gM → Prop} (hf : f_X2_expect a0 a1 M K KX) : gMet l G yX2_expect (ws_ yX2_expect cX2_expect 2 none) ({ frames := 5, cells := 0, slots := 0, locals := 110 }) M [.ref a0, .ref a1] (kV K) KX := by
  refine gm_of hl (ret := none) rfl (Nat.le_of_ble_eq_true rfl) (fun X h hq => ?_)
  have h : hX l G X cX2_expect 2 "GlacierMail$Reader" 5 110 := h
  have hf := hf
  show V l G X 0 0 M 0 [(0, .ref a0), (1, .ref a1)] []
  unfold f_X2_expect at hf
  refine r_aload_n h 0 dX2_expect_0 rfl rfl ?_
  refine r_aload_n h 1 dX2_expect_1 rfl rfl ?_
  obtain ⟨k1, hf⟩ := hf
  refine c859 hl h dX2_expect_2 k1 hf (Nat.le_of_ble_eq_true rfl) (by decide) (by decide) (fun x3 M2 hf => ?_)
  refine r_if_ne (tgt := 16) h dX2_expect_5 (by decide) (fun c4 => ?_) (fun c4 => ?_)
  · have hf := ite_f c4 hf
    exact r_return h hq dX2_expect_16 ⟨rfl, hf⟩
  · have hf := ite_t c4 hf
    refine r_aload_n h 0 dX2_expect_8 rfl rfl ?_
    refine r_aload_n h 0 dX2_expect_9 rfl rfl ?_
    obtain ⟨k5, hf⟩ := hf
    refine g517 h dX2_expect_10 k5 ?_
    refine c850 hl h dX2_expect_13 k5 hf (Nat.le_of_ble_eq_true rfl) (by decide) (by decide) (fun M6 hf => ?_) (fun q9 E9 M9 hf => r_out h hq hf)
    exact r_return h hq dX2_expect_16 ⟨rfl, hf⟩
theorem c935 {l : Launch} {G : gG} {X : gX} {cc : ByteArray} {nL F L bc bs pc : Nat} {M : gM} {lv : List (Nat × Value)} {rest : List Value} {a0 : Nat} {a1 : Nat} {K : gM → Prop} {KX : Addr → String → gM → Prop} (hl : l.stackTraces = false) (h : hX l G X cc nL "GlacierMail$Reader" F L) (d : decode cc pc = .ok (.invokevirtual 147, 3)) (hk : kd M a0 = some (.inl 2)) (hf : f_X2_expect a0 a1 M K KX) (hst : (rest.map fun v => v.category).sum ≤ 8) (hF : 6 ≤ F) (hL : 131 ≤ L) (kk : ∀ M1, K M1 → V l G X bc bs M1 (pc + 3) lv rest) (kx : ∀ q E M1, KX q E M1 → VX l G X bc bs M1 pc lv q E) : V l G X bc bs M pc lv (.ref a1 :: .ref a0 :: rest) := r_callV (n := 1) (As := [.ref a1]) h (m_X2_expect hl hf) 2 rfl hk rfl ⟨by decide, by decide, by decide +kernel⟩ d q935 q937 qs19 q136 q938 rfl rfl hst hF hL (Nat.zero_le _) (Nat.zero_le _) (kV_go kk) kx
def f_X2_addFlood (a0 : Nat) (a1 : Int32) (M : gM) (K : gM → Prop) (KX : Addr → String → gM → Prop) : Prop :=
  ∀ P17 : Nat → gM → Prop,
  (∀ (v0 : Nat) (M : gM), (kd M v0 = some (.inl 2) ∧ ∃ b8, rv M v0 4 = some b8 ∧ kd M b8 = some (.inl 3) ∧ ∃ b11, rv M b8 1 = some b11 ∧ ∃ b13, rv M v0 4 = some b13 ∧ kd M b13 = some (.inl 3) ∧ inA M b11 6 (iv M b13 12) ∧ ∃ b17, rv M b11 (ix (iv M b13 12)) = some b17 ∧ ∃ b19, rv M v0 4 = some b19 ∧ kd M b19 = some (.inl 3) ∧ f_X2_number v0 (iv M b19 22) 299 M (fun x23 M22 => kd M22 b17 = some (.inl 5) ∧ ∀ M25, M25 = sI M22 b17 0 x23 → kd M25 v0 = some (.inl 2) ∧ f_X2_place v0 M25 (fun x28 M27 => kd M27 b17 = some (.inl 5) ∧ ∀ M30, M30 = sI M27 b17 1 x28 → kd M30 v0 = some (.inl 2) ∧ f_X2_number v0 1 20 M30 (fun x33 M32 => kd M32 b17 = some (.inl 5) ∧ ∀ M35, M35 = sI M32 b17 2 x33 → kd M35 v0 = some (.inl 2) ∧ ∃ b37, rv M35 v0 4 = some b37 ∧ kd M35 b37 = some (.inl 3) ∧ ∀ M40, M40 = sI M35 b37 12 ((iv M35 b37 12) + 1) → K M40) KX) KX) KX) → P17 v0 M) →
  kd M a0 = some (.inl 2) ∧ ∃ b2, rv M a0 4 = some b2 ∧ kd M b2 = some (.inl 3) ∧ if (iv M b2 12) = 8 then f_X2_fail a0 a1 M (fun M6 => P17 a0 M6) KX else P17 a0 M
set_option maxHeartbeats 4000000 in
theorem m_X2_addFlood {l : Launch} (hl : l.stackTraces = false) {G : gG} {a0 : Nat} {a1 : Int32} {M : gM} {K : gM → Prop} {KX : Addr → String → gM → Prop} (hf : f_X2_addFlood a0 a1 M K KX) : gMet l G yX2_addFlood (ws_ yX2_addFlood cX2_addFlood 3 none) ({ frames := 3, cells := 0, slots := 0, locals := 66 }) M [.ref a0, .int a1] (kV K) KX := by
  refine gm_of hl (ret := none) rfl (Nat.le_of_ble_eq_true rfl) (fun X h hq => ?_)
  have h : hX l G X cX2_addFlood 3 "GlacierMail$Reader" 3 66 := h
  have hf := hf
  show V l G X 0 0 M 0 [(0, .ref a0), (1, .int a1)] []
  have hf := hf
    (fun v0 M => V l G X 0 0 M 17 [(0, .ref v0)] [])
    (by
      intro v0 M hf
      show V l G X 0 0 M 17 [(0, .ref v0)] []
      refine r_aload_n h 0 dX2_addFlood_17 rfl rfl ?_
      obtain ⟨k7, hf⟩ := hf
      obtain ⟨b8, e9, hf⟩ := hf
      refine g513 h dX2_addFlood_18 k7 e9 ?_
      obtain ⟨k10, hf⟩ := hf
      obtain ⟨b11, e12, hf⟩ := hf
      refine g323 h dX2_addFlood_21 k10 e12 ?_
      refine r_aload_n h 0 dX2_addFlood_24 rfl rfl ?_
      obtain ⟨b13, e14, hf⟩ := hf
      refine g513 h dX2_addFlood_25 k7 e14 ?_
      obtain ⟨k15, hf⟩ := hf
      refine g352 h dX2_addFlood_28 k15 ?_
      obtain ⟨j16, b17, e18, hf⟩ := hf
      refine r_aaload h 6 (by decide) (by decide) dX2_addFlood_31 j16 (v := .ref b17) (by rw [e18]; rfl) ?_
      refine r_astore_n (lv' := [(2, .ref b17), (0, .ref v0)]) h dX2_addFlood_32 rfl (by decide) rfl ?_
      refine r_aload_n h 0 dX2_addFlood_33 rfl rfl ?_
      refine r_aload_n h 1 dX2_addFlood_34 rfl rfl ?_
      refine r_aload_n h 1 dX2_addFlood_35 rfl rfl ?_
      obtain ⟨b19, e20, hf⟩ := hf
      refine g513 h dX2_addFlood_36 k7 e20 ?_
      obtain ⟨k21, hf⟩ := hf
      refine g380 h dX2_addFlood_39 k21 ?_
      refine r_sipush (v := 299) h dX2_addFlood_42 (by decide) ?_
      refine c915 hl h dX2_addFlood_45 k7 hf (Nat.le_of_ble_eq_true rfl) (by decide) (by decide) (fun x23 M22 hf => ?_) (fun q9 E9 M9 hf => r_out h hq hf)
      obtain ⟨k24, hf⟩ := hf
      refine p238 h dX2_addFlood_48 k24 ?_
      refine r_goW (fun M25 eM25 => ?_)
      have hf := hf M25 eM25
      refine r_aload_n h 0 dX2_addFlood_51 rfl rfl ?_
      refine r_aload_n h 1 dX2_addFlood_52 rfl rfl ?_
      obtain ⟨k26, hf⟩ := hf
      refine c930 hl h dX2_addFlood_53 k26 hf (Nat.le_of_ble_eq_true rfl) (by decide) (by decide) (fun x28 M27 hf => ?_) (fun q9 E9 M9 hf => r_out h hq hf)
      obtain ⟨k29, hf⟩ := hf
      refine p242 h dX2_addFlood_56 k29 ?_
      refine r_goW (fun M30 eM30 => ?_)
      have hf := hf M30 eM30
      refine r_aload_n h 0 dX2_addFlood_59 rfl rfl ?_
      refine r_aload_n h 1 dX2_addFlood_60 rfl rfl ?_
      refine r_iconst (v := 1) h dX2_addFlood_61 (by decide) ?_
      refine r_bipush (v := 20) h dX2_addFlood_62 (by decide) ?_
      obtain ⟨k31, hf⟩ := hf
      refine c915 hl h dX2_addFlood_64 k31 hf (Nat.le_of_ble_eq_true rfl) (by decide) (by decide) (fun x33 M32 hf => ?_) (fun q9 E9 M9 hf => r_out h hq hf)
      obtain ⟨k34, hf⟩ := hf
      refine p245 h dX2_addFlood_67 k34 ?_
      refine r_goW (fun M35 eM35 => ?_)
      have hf := hf M35 eM35
      refine r_aload_n h 1 dX2_addFlood_70 rfl rfl ?_
      obtain ⟨k36, hf⟩ := hf
      obtain ⟨b37, e38, hf⟩ := hf
      refine g513 h dX2_addFlood_71 k36 e38 ?_
      refine r_dup h dX2_addFlood_74 rfl ?_
      obtain ⟨k39, hf⟩ := hf
      refine g352 h dX2_addFlood_75 k39 ?_
      refine r_iconst (v := 1) h dX2_addFlood_78 (by decide) ?_
      refine r_iadd h dX2_addFlood_79 ?_
      refine p352 h dX2_addFlood_80 k39 ?_
      refine r_goW (fun M40 eM40 => ?_)
      have hf := hf M40 eM40
      exact r_return h hq dX2_addFlood_83 ⟨rfl, hf⟩)
  refine r_aload_n h 0 dX2_addFlood_0 rfl rfl ?_
  obtain ⟨k1, hf⟩ := hf
  obtain ⟨b2, e3, hf⟩ := hf
  refine g513 h dX2_addFlood_1 k1 e3 ?_
  obtain ⟨k4, hf⟩ := hf
  refine g352 h dX2_addFlood_4 k4 ?_
  refine r_bipush (v := 8) h dX2_addFlood_7 (by decide) ?_
  refine r_icmp_ne (tgt := 17) h dX2_addFlood_9 (by decide) (fun c5 => ?_) (fun c5 => ?_)
  · have hf := ite_f c5 hf
    exact V.sub [0] rfl hf
  · have hf := ite_t c5 hf
    refine r_aload_n h 0 dX2_addFlood_12 rfl rfl ?_
    refine r_iload_n h 1 dX2_addFlood_13 rfl rfl ?_
    refine c850 hl h dX2_addFlood_14 k1 hf (Nat.le_of_ble_eq_true rfl) (by decide) (by decide) (fun M6 hf => ?_) (fun q9 E9 M9 hf => r_out h hq hf)
    exact V.sub [0] rfl hf
theorem c942 {l : Launch} {G : gG} {X : gX} {cc : ByteArray} {nL F L bc bs pc : Nat} {M : gM} {lv : List (Nat × Value)} {rest : List Value} {a0 : Nat} {a1 : Int32} {K : gM → Prop} {KX : Addr → String → gM → Prop} (hl : l.stackTraces = false) (h : hX l G X cc nL "GlacierMail$Reader" F L) (d : decode cc pc = .ok (.invokevirtual 160, 3)) (hk : kd M a0 = some (.inl 2)) (hf : f_X2_addFlood a0 a1 M K KX) (hst : (rest.map fun v => v.category).sum ≤ 8) (hF : 4 ≤ F) (hL : 88 ≤ L) (kk : ∀ M1, K M1 → V l G X bc bs M1 (pc + 3) lv rest) (kx : ∀ q E M1, KX q E M1 → VX l G X bc bs M1 pc lv q E) : V l G X bc bs M pc lv (.int a1 :: .ref a0 :: rest) := r_callV (n := 1) (As := [.int a1]) h (m_X2_addFlood hl hf) 2 rfl hk rfl ⟨by decide, by decide, by decide +kernel⟩ d q942 q944 qs20 q136 q945 rfl rfl hst hF hL (Nat.zero_le _) (Nat.zero_le _) (kV_go kk) kx
def f_X2_lane (a0 : Nat) (M : gM) (K : Int32 → gM → Prop) (KX : Addr → String → gM → Prop) : Prop :=
  kd M a0 = some (.inl 2) ∧ ∃ b2, rv M a0 4 = some b2 ∧ kd M b2 = some (.inl 3) ∧ f_X2_number a0 0 ((iv M b2 9) - 1) M (fun x6 M5 => K x6 M5) KX
set_option maxHeartbeats 4000000 in
theorem m_X2_lane {l : Launch} (hl : l.stackTraces = false) {G : gG} {a0 : Nat} {M : gM} {K : Int32 → gM → Prop} {KX : Addr → String → gM → Prop} (hf : f_X2_lane a0 M K KX) : gMet l G yX2_lane (ws_ yX2_lane cX2_lane 1 (some Jvm.ClassFile.FieldType.int)) ({ frames := 2, cells := 0, slots := 0, locals := 46 }) M [.ref a0] (kI K) KX := by
  refine gm_of hl (ret := (some Jvm.ClassFile.FieldType.int)) rfl (Nat.le_of_ble_eq_true rfl) (fun X h hq => ?_)
  have h : hX l G X cX2_lane 1 "GlacierMail$Reader" 2 46 := h
  have hf := hf
  show V l G X 0 0 M 0 [(0, .ref a0)] []
  unfold f_X2_lane at hf
  refine r_aload_n h 0 dX2_lane_0 rfl rfl ?_
  refine r_iconst (v := 0) h dX2_lane_1 (by decide) ?_
  refine r_aload_n h 0 dX2_lane_2 rfl rfl ?_
  obtain ⟨k1, hf⟩ := hf
  obtain ⟨b2, e3, hf⟩ := hf
  refine g513 h dX2_lane_3 k1 e3 ?_
  obtain ⟨k4, hf⟩ := hf
  refine g343 h dX2_lane_6 k4 ?_
  refine r_iconst (v := 1) h dX2_lane_9 (by decide) ?_
  refine r_isub h dX2_lane_10 ?_
  refine c915 hl h dX2_lane_11 k1 hf (Nat.le_of_ble_eq_true rfl) (by decide) (by decide) (fun x6 M5 hf => ?_) (fun q9 E9 M9 hf => r_out h hq hf)
  exact r_ireturn h hq dX2_lane_14 ⟨_, rfl, hf⟩
theorem c950 {l : Launch} {G : gG} {X : gX} {cc : ByteArray} {nL F L bc bs pc : Nat} {M : gM} {lv : List (Nat × Value)} {rest : List Value} {a0 : Nat} {K : Int32 → gM → Prop} {KX : Addr → String → gM → Prop} (hl : l.stackTraces = false) (h : hX l G X cc nL "GlacierMail$Reader" F L) (d : decode cc pc = .ok (.invokevirtual 171, 3)) (hk : kd M a0 = some (.inl 2)) (hf : f_X2_lane a0 M K KX) (hst : (rest.map fun v => v.category).sum ≤ 8) (hF : 3 ≤ F) (hL : 66 ≤ L) (kk : ∀ x M1, K x M1 → V l G X bc bs M1 (pc + 3) lv (.int x :: rest)) (kx : ∀ q E M1, KX q E M1 → VX l G X bc bs M1 pc lv q E) : V l G X bc bs M pc lv (.ref a0 :: rest) := r_callV (n := 0) (As := []) h (m_X2_lane hl hf) 2 rfl hk rfl ⟨by decide, by decide, by decide +kernel⟩ d q950 q952 qs22 q136 q953 rfl rfl hst hF hL (Nat.zero_le _) (Nat.zero_le _) (kI_go kk) kx
def f_X2_addPerson (a0 : Nat) (a1 : Int32) (M : gM) (K : gM → Prop) (KX : Addr → String → gM → Prop) : Prop :=
  ∀ P17 : Nat → gM → Prop,
  (∀ (v0 : Nat) (M : gM), (kd M v0 = some (.inl 2) ∧ ∃ b8, rv M v0 4 = some b8 ∧ kd M b8 = some (.inl 3) ∧ ∃ b11, rv M b8 2 = some b11 ∧ ∃ b13, rv M v0 4 = some b13 ∧ kd M b13 = some (.inl 3) ∧ inA M b11 7 (iv M b13 13) ∧ ∃ b17, rv M b11 (ix (iv M b13 13)) = some b17 ∧ f_X2_lane v0 M (fun x20 M19 => kd M19 b17 = some (.inl 6) ∧ ∀ M22, M22 = sI M19 b17 0 x20 → kd M22 v0 = some (.inl 2) ∧ f_X2_place v0 M22 (fun x25 M24 => kd M24 b17 = some (.inl 6) ∧ ∀ M27, M27 = sI M24 b17 1 x25 → ∀ w28, kd M27 w28 = some (.inr (10, 18)) → kd M27 v0 = some (.inl 2) ∧ f_X2_takes v0 w28 M27 (fun x31 M30 => if x31 = 0 then kd M30 b17 = some (.inl 6) ∧ ∀ M34, M34 = sI M30 b17 2 (-1) → kd M34 v0 = some (.inl 2) ∧ ∃ b36, rv M34 v0 4 = some b36 ∧ kd M34 b36 = some (.inl 3) ∧ ∀ M39, M39 = sI M34 b36 13 ((iv M34 b36 13) + 1) → K M39 else kd M30 v0 = some (.inl 2) ∧ f_X2_lane v0 M30 (fun x42 M41 => kd M41 b17 = some (.inl 6) ∧ ∀ M44, M44 = sI M41 b17 2 x42 → kd M44 v0 = some (.inl 2) ∧ ∃ b46, rv M44 v0 4 = some b46 ∧ kd M44 b46 = some (.inl 3) ∧ ∀ M49, M49 = sI M44 b46 13 ((iv M44 b46 13) + 1) → K M49) KX)) KX) KX) → P17 v0 M) →
  kd M a0 = some (.inl 2) ∧ ∃ b2, rv M a0 4 = some b2 ∧ kd M b2 = some (.inl 3) ∧ if (iv M b2 13) = 8 then f_X2_fail a0 a1 M (fun M6 => P17 a0 M6) KX else P17 a0 M
set_option maxHeartbeats 4000000 in
theorem m_X2_addPerson {l : Launch} (hl : l.stackTraces = false) {G : gG} {a0 : Nat} {a1 : Int32} {M : gM} {K : gM → Prop} {KX : Addr → String → gM → Prop} (hf : f_X2_addPerson a0 a1 M K KX) : gMet l G yX2_addPerson (ws_ yX2_addPerson cX2_addPerson 3 none) ({ frames := 5, cells := 0, slots := 0, locals := 110 }) M [.ref a0, .int a1] (kV K) KX := by
  refine gm_of hl (ret := none) rfl (Nat.le_of_ble_eq_true rfl) (fun X h hq => ?_)
  have h : hX l G X cX2_addPerson 3 "GlacierMail$Reader" 5 110 := h
  have hf := hf
  show V l G X 0 0 M 0 [(0, .ref a0), (1, .int a1)] []
  have hf := hf
    (fun v0 M => V l G X 0 0 M 17 [(0, .ref v0)] [])
    (by
      intro v0 M hf
      show V l G X 0 0 M 17 [(0, .ref v0)] []
      refine r_aload_n h 0 dX2_addPerson_17 rfl rfl ?_
      obtain ⟨k7, hf⟩ := hf
      obtain ⟨b8, e9, hf⟩ := hf
      refine g513 h dX2_addPerson_18 k7 e9 ?_
      obtain ⟨k10, hf⟩ := hf
      obtain ⟨b11, e12, hf⟩ := hf
      refine g327 h dX2_addPerson_21 k10 e12 ?_
      refine r_aload_n h 0 dX2_addPerson_24 rfl rfl ?_
      obtain ⟨b13, e14, hf⟩ := hf
      refine g513 h dX2_addPerson_25 k7 e14 ?_
      obtain ⟨k15, hf⟩ := hf
      refine g356 h dX2_addPerson_28 k15 ?_
      obtain ⟨j16, b17, e18, hf⟩ := hf
      refine r_aaload h 7 (by decide) (by decide) dX2_addPerson_31 j16 (v := .ref b17) (by rw [e18]; rfl) ?_
      refine r_astore_n (lv' := [(2, .ref b17), (0, .ref v0)]) h dX2_addPerson_32 rfl (by decide) rfl ?_
      refine r_aload_n h 0 dX2_addPerson_33 rfl rfl ?_
      refine r_aload_n h 1 dX2_addPerson_34 rfl rfl ?_
      refine c950 hl h dX2_addPerson_35 k7 hf (Nat.le_of_ble_eq_true rfl) (by decide) (by decide) (fun x20 M19 hf => ?_) (fun q9 E9 M9 hf => r_out h hq hf)
      obtain ⟨k21, hf⟩ := hf
      refine p259 h dX2_addPerson_38 k21 ?_
      refine r_goW (fun M22 eM22 => ?_)
      have hf := hf M22 eM22
      refine r_aload_n h 0 dX2_addPerson_41 rfl rfl ?_
      refine r_aload_n h 1 dX2_addPerson_42 rfl rfl ?_
      obtain ⟨k23, hf⟩ := hf
      refine c930 hl h dX2_addPerson_43 k23 hf (Nat.le_of_ble_eq_true rfl) (by decide) (by decide) (fun x25 M24 hf => ?_) (fun q9 E9 M9 hf => r_out h hq hf)
      obtain ⟨k26, hf⟩ := hf
      refine p262 h dX2_addPerson_46 k26 ?_
      refine r_goW (fun M27 eM27 => ?_)
      have hf := hf M27 eM27
      refine r_aload_n h 0 dX2_addPerson_49 rfl rfl ?_
      refine r_aload_n h 1 dX2_addPerson_50 rfl rfl ?_
      refine r_ldcS h (i := 18) (by decide) (List.mem_of_getElem? (i := 18) rfl) dX2_addPerson_51 (fun w28 kw28 => ?_)
      have hf := hf w28 kw28
      obtain ⟨k29, hf⟩ := hf
      refine c859 hl h dX2_addPerson_53 k29 hf (Nat.le_of_ble_eq_true rfl) (by decide) (by decide) (fun x31 M30 hf => ?_)
      refine r_if_eq (tgt := 66) h dX2_addPerson_56 (by decide) (fun c32 => ?_) (fun c32 => ?_)
      · have hf := ite_t c32 hf
        refine r_iconst (v := (-1)) h dX2_addPerson_66 (by decide) ?_
        obtain ⟨k33, hf⟩ := hf
        refine p265 h dX2_addPerson_67 k33 ?_
        refine r_goW (fun M34 eM34 => ?_)
        have hf := hf M34 eM34
        refine r_aload_n h 1 dX2_addPerson_70 rfl rfl ?_
        obtain ⟨k35, hf⟩ := hf
        obtain ⟨b36, e37, hf⟩ := hf
        refine g513 h dX2_addPerson_71 k35 e37 ?_
        refine r_dup h dX2_addPerson_74 rfl ?_
        obtain ⟨k38, hf⟩ := hf
        refine g356 h dX2_addPerson_75 k38 ?_
        refine r_iconst (v := 1) h dX2_addPerson_78 (by decide) ?_
        refine r_iadd h dX2_addPerson_79 ?_
        refine p356 h dX2_addPerson_80 k38 ?_
        refine r_goW (fun M39 eM39 => ?_)
        have hf := hf M39 eM39
        exact r_return h hq dX2_addPerson_83 ⟨rfl, hf⟩
      · have hf := ite_f c32 hf
        refine r_aload_n h 1 dX2_addPerson_59 rfl rfl ?_
        obtain ⟨k40, hf⟩ := hf
        refine c950 hl h dX2_addPerson_60 k40 hf (Nat.le_of_ble_eq_true rfl) (by decide) (by decide) (fun x42 M41 hf => ?_) (fun q9 E9 M9 hf => r_out h hq hf)
        refine r_goto (tgt := 67) h dX2_addPerson_63 (by decide) ?_
        obtain ⟨k43, hf⟩ := hf
        refine p265 h dX2_addPerson_67 k43 ?_
        refine r_goW (fun M44 eM44 => ?_)
        have hf := hf M44 eM44
        refine r_aload_n h 1 dX2_addPerson_70 rfl rfl ?_
        obtain ⟨k45, hf⟩ := hf
        obtain ⟨b46, e47, hf⟩ := hf
        refine g513 h dX2_addPerson_71 k45 e47 ?_
        refine r_dup h dX2_addPerson_74 rfl ?_
        obtain ⟨k48, hf⟩ := hf
        refine g356 h dX2_addPerson_75 k48 ?_
        refine r_iconst (v := 1) h dX2_addPerson_78 (by decide) ?_
        refine r_iadd h dX2_addPerson_79 ?_
        refine p356 h dX2_addPerson_80 k48 ?_
        refine r_goW (fun M49 eM49 => ?_)
        have hf := hf M49 eM49
        exact r_return h hq dX2_addPerson_83 ⟨rfl, hf⟩)
  refine r_aload_n h 0 dX2_addPerson_0 rfl rfl ?_
  obtain ⟨k1, hf⟩ := hf
  obtain ⟨b2, e3, hf⟩ := hf
  refine g513 h dX2_addPerson_1 k1 e3 ?_
  obtain ⟨k4, hf⟩ := hf
  refine g356 h dX2_addPerson_4 k4 ?_
  refine r_bipush (v := 8) h dX2_addPerson_7 (by decide) ?_
  refine r_icmp_ne (tgt := 17) h dX2_addPerson_9 (by decide) (fun c5 => ?_) (fun c5 => ?_)
  · have hf := ite_f c5 hf
    exact V.sub [0] rfl hf
  · have hf := ite_t c5 hf
    refine r_aload_n h 0 dX2_addPerson_12 rfl rfl ?_
    refine r_iload_n h 1 dX2_addPerson_13 rfl rfl ?_
    refine c850 hl h dX2_addPerson_14 k1 hf (Nat.le_of_ble_eq_true rfl) (by decide) (by decide) (fun M6 hf => ?_) (fun q9 E9 M9 hf => r_out h hq hf)
    exact V.sub [0] rfl hf
theorem c946 {l : Launch} {G : gG} {X : gX} {cc : ByteArray} {nL F L bc bs pc : Nat} {M : gM} {lv : List (Nat × Value)} {rest : List Value} {a0 : Nat} {a1 : Int32} {K : gM → Prop} {KX : Addr → String → gM → Prop} (hl : l.stackTraces = false) (h : hX l G X cc nL "GlacierMail$Reader" F L) (d : decode cc pc = .ok (.invokevirtual 163, 3)) (hk : kd M a0 = some (.inl 2)) (hf : f_X2_addPerson a0 a1 M K KX) (hst : (rest.map fun v => v.category).sum ≤ 8) (hF : 6 ≤ F) (hL : 132 ≤ L) (kk : ∀ M1, K M1 → V l G X bc bs M1 (pc + 3) lv rest) (kx : ∀ q E M1, KX q E M1 → VX l G X bc bs M1 pc lv q E) : V l G X bc bs M pc lv (.int a1 :: .ref a0 :: rest) := r_callV (n := 1) (As := [.int a1]) h (m_X2_addPerson hl hf) 2 rfl hk rfl ⟨by decide, by decide, by decide +kernel⟩ d q946 q948 qs21 q136 q949 rfl rfl hst hF hL (Nat.zero_le _) (Nat.zero_le _) (kV_go kk) kx
def f_X7_tell (a0 : Nat) (a1 : Int32) (a2 : Int32) (a3 : Int32) (a4 : Int32) (a5 : Int32) (M : gM) (K : Nat → gM → Prop) : Prop :=
  kd M a0 = some (.inl 7) ∧ ∀ M2, M2 = sI M a0 0 a1 → kd M2 a0 = some (.inl 7) ∧ ∀ M4, M4 = sI M2 a0 1 a2 → kd M4 a0 = some (.inl 7) ∧ ∀ M6, M6 = sI M4 a0 2 a3 → kd M6 a0 = some (.inl 7) ∧ ∀ M8, M8 = sI M6 a0 3 a4 → kd M8 a0 = some (.inl 7) ∧ ∀ M10, M10 = sI M8 a0 4 a5 → kd M10 a0 = some (.inl 7) ∧ ∀ M12, M12 = sI M10 a0 5 (-1) → kd M12 a0 = some (.inl 7) ∧ ∀ M14, M14 = sI M12 a0 6 (-1) → K a0 M14
set_option maxHeartbeats 4000000 in
theorem m_X7_tell {l : Launch} (hl : l.stackTraces = false) {G : gG} {a0 : Nat} {a1 : Int32} {a2 : Int32} {a3 : Int32} {a4 : Int32} {a5 : Int32} {M : gM} {K : Nat → gM → Prop} (hf : f_X7_tell a0 a1 a2 a3 a4 a5 M K) : gMet l G yX7_tell (ws_ yX7_tell cX7_tell 6 (some (Jvm.ClassFile.FieldType.object "GlacierMail$Letter"))) ({ frames := 0, cells := 0, slots := 0, locals := 0 }) M [.ref a0, .int a1, .int a2, .int a3, .int a4, .int a5] (kA K) kN := by
  refine gm_of hl (ret := (some (Jvm.ClassFile.FieldType.object "GlacierMail$Letter"))) rfl (Nat.le_of_ble_eq_true rfl) (fun X h hq => ?_)
  have h : hX l G X cX7_tell 6 "GlacierMail$Letter" 0 0 := h
  have hf := hf
  show V l G X 0 0 M 0 [(0, .ref a0), (1, .int a1), (2, .int a2), (3, .int a3), (4, .int a4), (5, .int a5)] []
  unfold f_X7_tell at hf
  refine r_aload_n h 0 dX7_tell_0 rfl rfl ?_
  refine r_iload_n h 1 dX7_tell_1 rfl rfl ?_
  obtain ⟨k1, hf⟩ := hf
  refine p279 h dX7_tell_2 k1 ?_
  refine r_goW (fun M2 eM2 => ?_)
  have hf := hf M2 eM2
  refine r_aload_n h 0 dX7_tell_5 rfl rfl ?_
  refine r_iload_n h 2 dX7_tell_6 rfl rfl ?_
  obtain ⟨k3, hf⟩ := hf
  refine p281 h dX7_tell_7 k3 ?_
  refine r_goW (fun M4 eM4 => ?_)
  have hf := hf M4 eM4
  refine r_aload_n h 0 dX7_tell_10 rfl rfl ?_
  refine r_iload_n h 3 dX7_tell_11 rfl rfl ?_
  obtain ⟨k5, hf⟩ := hf
  refine p283 h dX7_tell_12 k5 ?_
  refine r_goW (fun M6 eM6 => ?_)
  have hf := hf M6 eM6
  refine r_aload_n h 0 dX7_tell_15 rfl rfl ?_
  refine r_iload h 4 dX7_tell_16 rfl ?_
  obtain ⟨k7, hf⟩ := hf
  refine p287 h dX7_tell_18 k7 ?_
  refine r_goW (fun M8 eM8 => ?_)
  have hf := hf M8 eM8
  refine r_aload_n h 0 dX7_tell_21 rfl rfl ?_
  refine r_iload h 5 dX7_tell_22 rfl ?_
  obtain ⟨k9, hf⟩ := hf
  refine p290 h dX7_tell_24 k9 ?_
  refine r_goW (fun M10 eM10 => ?_)
  have hf := hf M10 eM10
  refine r_aload_n h 0 dX7_tell_27 rfl rfl ?_
  refine r_iconst (v := (-1)) h dX7_tell_28 (by decide) ?_
  obtain ⟨k11, hf⟩ := hf
  refine p294 h dX7_tell_29 k11 ?_
  refine r_goW (fun M12 eM12 => ?_)
  have hf := hf M12 eM12
  refine r_aload_n h 0 dX7_tell_32 rfl rfl ?_
  refine r_iconst (v := (-1)) h dX7_tell_33 (by decide) ?_
  obtain ⟨k13, hf⟩ := hf
  refine p297 h dX7_tell_34 k13 ?_
  refine r_goW (fun M14 eM14 => ?_)
  have hf := hf M14 eM14
  refine r_aload_n h 0 dX7_tell_37 rfl rfl ?_
  exact r_areturn h hq dX7_tell_38 ⟨_, rfl, hf⟩
theorem c956 {l : Launch} {G : gG} {X : gX} {cc : ByteArray} {nL F L bc bs pc : Nat} {M : gM} {lv : List (Nat × Value)} {rest : List Value} {a0 : Nat} {a1 : Int32} {a2 : Int32} {a3 : Int32} {a4 : Int32} {a5 : Int32} {K : Nat → gM → Prop} (hl : l.stackTraces = false) (h : hX l G X cc nL "GlacierMail$Reader" F L) (d : decode cc pc = .ok (.invokevirtual 180, 3)) (hk : kd M a0 = some (.inl 7)) (hf : f_X7_tell a0 a1 a2 a3 a4 a5 M K) (hst : (rest.map fun v => v.category).sum ≤ 8) (hF : 1 ≤ F) (hL : 25 ≤ L) (kk : ∀ x M1, K x M1 → V l G X bc bs M1 (pc + 3) lv (.ref x :: rest)) : V l G X bc bs M pc lv (.int a5 :: .int a4 :: .int a3 :: .int a2 :: .int a1 :: .ref a0 :: rest) := r_callV (n := 5) (As := [.int a1, .int a2, .int a3, .int a4, .int a5]) h (m_X7_tell hl hf) 7 rfl hk rfl ⟨by decide, by decide, by decide +kernel⟩ d q956 q957 q958 q141 q959 rfl rfl hst hF hL (Nat.zero_le _) (Nat.zero_le _) (kA_go kk) kN_go
theorem c1308 {l : Launch} {G : gG} {X : gX} {cc : ByteArray} {nL F L bc bs pc : Nat} {M : gM} {lv : List (Nat × Value)} {rest : List Value} {a0 : Nat} {a1 : Int32} {a2 : Int32} {a3 : Int32} {a4 : Int32} {a5 : Int32} {K : Nat → gM → Prop} (hl : l.stackTraces = false) (h : hX l G X cc nL "GlacierMail" F L) (d : decode cc pc = .ok (.invokevirtual 283, 3)) (hk : kd M a0 = some (.inl 7)) (hf : f_X7_tell a0 a1 a2 a3 a4 a5 M K) (hst : (rest.map fun v => v.category).sum ≤ 8) (hF : 1 ≤ F) (hL : 25 ≤ L) (kk : ∀ x M1, K x M1 → V l G X bc bs M1 (pc + 3) lv (.ref x :: rest)) : V l G X bc bs M pc lv (.int a5 :: .int a4 :: .int a3 :: .int a2 :: .int a1 :: .ref a0 :: rest) := r_callV (n := 5) (As := [.int a1, .int a2, .int a3, .int a4, .int a5]) h (m_X7_tell hl hf) 7 rfl hk rfl ⟨by decide, by decide, by decide +kernel⟩ d q1308 q957 q958 q141 q959 rfl rfl hst hF hL (Nat.zero_le _) (Nat.zero_le _) (kA_go kk) kN_go
def f_X2_line (a0 : Nat) (M : gM) (K : gM → Prop) (KX : Addr → String → gM → Prop) : Prop :=
  ∀ P29 : Nat → gM → Prop,
  ∀ P84 : Nat → gM → Prop,
  ∀ P289 : Nat → gM → Prop,
  ∀ P366 : Nat → gM → Prop,
  (∀ (v0 : Nat) (M : gM), (kd M v0 = some (.inl 2) ∧ ∃ b120, rv M v0 4 = some b120 ∧ f_X2_number v0 1 6 M (fun x123 M122 => kd M122 b120 = some (.inl 3) ∧ ∀ M125, M125 = sI M122 b120 9 x123 → kd M125 v0 = some (.inl 2) ∧ ∃ b127, rv M125 v0 4 = some b127 ∧ ∃ b129, rv M125 v0 4 = some b129 ∧ kd M125 b129 = some (.inl 3) ∧ kd M125 b127 = some (.inl 3) ∧ ∀ M133, M133 = sI M125 b127 20 (iv M125 b129 9) → K M133) KX) → P29 v0 M) →
  (∀ (v0 : Nat) (M : gM), (kd M v0 = some (.inl 2) ∧ ∃ b135, rv M v0 4 = some b135 ∧ f_X2_number v0 10 99 M (fun x138 M137 => kd M137 b135 = some (.inl 3) ∧ ∀ M140, M140 = sI M137 b135 10 x138 → kd M140 v0 = some (.inl 2) ∧ ∃ b142, rv M140 v0 4 = some b142 ∧ kd M140 b142 = some (.inl 3) ∧ ∀ M145, M145 = sI M140 b142 18 10 → K M145) KX) → P84 v0 M) →
  (∀ (v0 : Nat) (M : gM), (kd M v0 = some (.inl 2) ∧ f_X2_lane v0 M (fun x148 M147 => kd M147 v0 = some (.inl 2) ∧ ∃ b150, rv M147 v0 4 = some b150 ∧ kd M147 b150 = some (.inl 3) ∧ ∃ b153, rv M147 b150 3 = some b153 ∧ ∃ b155, rv M147 v0 4 = some b155 ∧ kd M147 b155 = some (.inl 3) ∧ inA M147 b153 8 (iv M147 b155 14) ∧ ∃ b159, rv M147 b153 (ix (iv M147 b155 14)) = some b159 ∧ f_X2_place v0 M147 (fun x162 M161 => kd M161 v0 = some (.inl 2) ∧ ∃ b164, rv M161 v0 4 = some b164 ∧ kd M161 b164 = some (.inl 3) ∧ kd M161 b159 = some (.inl 7) ∧ f_X7_tell b159 (-1) (-1) x148 x162 (iv M161 b164 22) M161 (fun b169 M168 => kd M168 v0 = some (.inl 2) ∧ ∃ b171, rv M168 v0 4 = some b171 ∧ kd M168 b171 = some (.inl 3) ∧ ∀ M174, M174 = sI M168 b171 14 ((iv M168 b171 14) + 1) → K M174)) KX) KX) → P289 v0 M) →
  (∀ (v0 : Nat) (M : gM), (kd M v0 = some (.inl 2) ∧ ∃ b176, rv M v0 4 = some b176 ∧ kd M b176 = some (.inl 3) ∧ ∃ b179, rv M b176 4 = some b179 ∧ ∃ b181, rv M v0 4 = some b181 ∧ kd M b181 = some (.inl 3) ∧ inA M b179 5 (iv M b181 15) ∧ ∃ b185, rv M b179 (ix (iv M b181 15)) = some b185 ∧ f_X2_speeds v0 b185 M (fun M187 => kd M187 v0 = some (.inl 2) ∧ ∃ b189, rv M187 v0 4 = some b189 ∧ kd M187 b189 = some (.inl 3) ∧ ∀ M192, M192 = sI M187 b189 15 ((iv M187 b189 15) + 1) → K M192) KX) → P366 v0 M) →
  kd M a0 = some (.inl 2) ∧ ∀ w2, kd M w2 = some (.inr (10, 10)) → f_X2_takes a0 w2 M (fun x4 M3 => if x4 = 0 then ∀ w6, kd M3 w6 = some (.inr (10, 11)) → kd M3 a0 = some (.inl 2) ∧ f_X2_takes a0 w6 M3 (fun x9 M8 => if x9 = 0 then ∀ w11, kd M8 w11 = some (.inr (10, 12)) → kd M8 a0 = some (.inl 2) ∧ f_X2_takes a0 w11 M8 (fun x14 M13 => if x14 = 0 then ∀ w16, kd M13 w16 = some (.inr (10, 13)) → kd M13 a0 = some (.inl 2) ∧ f_X2_takes a0 w16 M13 (fun x19 M18 => if x19 = 0 then ∀ w21, kd M18 w21 = some (.inr (10, 15)) → kd M18 a0 = some (.inl 2) ∧ f_X2_takes a0 w21 M18 (fun x24 M23 => if x24 = 0 then ∀ w26, kd M23 w26 = some (.inr (10, 16)) → kd M23 a0 = some (.inl 2) ∧ f_X2_takes a0 w26 M23 (fun x29 M28 => if x29 = 0 then ∀ w31, kd M28 w31 = some (.inr (10, 17)) → kd M28 a0 = some (.inl 2) ∧ f_X2_takes a0 w31 M28 (fun x34 M33 => if x34 = 0 then ∀ w36, kd M33 w36 = some (.inr (10, 5)) → kd M33 a0 = some (.inl 2) ∧ f_X2_takes a0 w36 M33 (fun x39 M38 => if x39 = 0 then ∀ w41, kd M38 w41 = some (.inr (10, 19)) → kd M38 a0 = some (.inl 2) ∧ f_X2_takes a0 w41 M38 (fun x44 M43 => if x44 = 0 then ∀ w46, kd M43 w46 = some (.inr (10, 20)) → kd M43 a0 = some (.inl 2) ∧ f_X2_expect a0 w46 M43 (fun M48 => kd M48 a0 = some (.inl 2) ∧ ∃ b50, rv M48 a0 4 = some b50 ∧ kd M48 b50 = some (.inl 3) ∧ if (iv M48 b50 15) = 6 then f_X2_fail a0 (iv M a0 8) M48 (fun M54 => P366 a0 M54) KX else P366 a0 M48) KX else kd M43 a0 = some (.inl 2) ∧ ∃ b56, rv M43 a0 4 = some b56 ∧ kd M43 b56 = some (.inl 3) ∧ if (iv M43 b56 14) = 24 then f_X2_fail a0 (iv M a0 8) M43 (fun M60 => P289 a0 M60) KX else P289 a0 M43) else kd M38 a0 = some (.inl 2) ∧ f_X2_addPerson a0 (iv M a0 8) M38 (fun M62 => K M62) KX) else kd M33 a0 = some (.inl 2) ∧ f_X2_addFlood a0 (iv M a0 8) M33 (fun M64 => K M64) KX) else kd M28 a0 = some (.inl 2) ∧ ∃ b66, rv M28 a0 4 = some b66 ∧ f_X2_number a0 0 9999 M28 (fun x69 M68 => kd M68 b66 = some (.inl 3) ∧ ∀ M71, M71 = sI M68 b66 21 x69 → K M71) KX) else kd M23 a0 = some (.inl 2) ∧ ∃ b73, rv M23 a0 4 = some b73 ∧ ∃ b75, rv M23 a0 4 = some b75 ∧ kd M23 b75 = some (.inl 3) ∧ f_X2_number a0 0 (iv M23 b75 9) M23 (fun x79 M78 => kd M78 b73 = some (.inl 3) ∧ ∀ M81, M81 = sI M78 b73 20 x79 → K M81) KX) else kd M18 a0 = some (.inl 2) ∧ ∃ b83, rv M18 a0 4 = some b83 ∧ f_X2_place a0 M18 (fun x86 M85 => kd M85 b83 = some (.inl 3) ∧ ∀ M88, M88 = sI M85 b83 18 x86 → ∀ w89, kd M88 w89 = some (.inr (10, 14)) → kd M88 a0 = some (.inl 2) ∧ f_X2_expect a0 w89 M88 (fun M91 => kd M91 a0 = some (.inl 2) ∧ ∃ b93, rv M91 a0 4 = some b93 ∧ f_X2_number a0 0 9 M91 (fun x96 M95 => kd M95 b93 = some (.inl 3) ∧ ∀ M98, M98 = sI M95 b93 19 x96 → K M98) KX) KX) KX) else kd M13 a0 = some (.inl 2) ∧ f_X2_addSection a0 (iv M a0 8) M13 (fun M100 => K M100) KX) else kd M8 a0 = some (.inl 2) ∧ ∃ b102, rv M8 a0 4 = some b102 ∧ kd M8 b102 = some (.inl 3) ∧ f_X3_isBegun b102 M8 (fun x106 M105 => if x106 = 0 then P84 a0 M105 else kd M105 a0 = some (.inl 2) ∧ f_X2_fail a0 (iv M a0 8) M105 (fun M109 => P84 a0 M109) KX)) else kd M3 a0 = some (.inl 2) ∧ ∃ b111, rv M3 a0 4 = some b111 ∧ kd M3 b111 = some (.inl 3) ∧ f_X3_isBegun b111 M3 (fun x115 M114 => if x115 = 0 then P29 a0 M114 else kd M114 a0 = some (.inl 2) ∧ f_X2_fail a0 (iv M a0 8) M114 (fun M118 => P29 a0 M118) KX))
set_option maxHeartbeats 4000000 in
theorem m_X2_line {l : Launch} (hl : l.stackTraces = false) {G : gG} {a0 : Nat} {M : gM} {K : gM → Prop} {KX : Addr → String → gM → Prop} (hf : f_X2_line a0 M K KX) : gMet l G yX2_line (ws_ yX2_line cX2_line 4 none) ({ frames := 6, cells := 0, slots := 0, locals := 132 }) M [.ref a0] (kV K) KX := by
  refine gm_of hl (ret := none) rfl (Nat.le_of_ble_eq_true rfl) (fun X h hq => ?_)
  have h : hX l G X cX2_line 4 "GlacierMail$Reader" 6 132 := h
  have hf := hf
  show V l G X 0 0 M 0 [(0, .ref a0)] []
  have hf := hf
    (fun v0 M => V l G X 0 0 M 29 [(0, .ref v0)] [])
    (fun v0 M => V l G X 0 0 M 84 [(0, .ref v0)] [])
    (fun v0 M => V l G X 0 0 M 289 [(0, .ref v0)] [])
    (fun v0 M => V l G X 0 0 M 366 [(0, .ref v0)] [])
    (by
      intro v0 M hf
      show V l G X 0 0 M 29 [(0, .ref v0)] []
      refine r_aload_n h 0 dX2_line_29 rfl rfl ?_
      obtain ⟨k119, hf⟩ := hf
      obtain ⟨b120, e121, hf⟩ := hf
      refine g513 h dX2_line_30 k119 e121 ?_
      refine r_aload_n h 0 dX2_line_33 rfl rfl ?_
      refine r_iconst (v := 1) h dX2_line_34 (by decide) ?_
      refine r_bipush (v := 6) h dX2_line_35 (by decide) ?_
      refine c915 hl h dX2_line_37 k119 hf (Nat.le_of_ble_eq_true rfl) (by decide) (by decide) (fun x123 M122 hf => ?_) (fun q9 E9 M9 hf => r_out h hq hf)
      obtain ⟨k124, hf⟩ := hf
      refine p343 h dX2_line_40 k124 ?_
      refine r_goW (fun M125 eM125 => ?_)
      have hf := hf M125 eM125
      refine r_aload_n h 0 dX2_line_43 rfl rfl ?_
      obtain ⟨k126, hf⟩ := hf
      obtain ⟨b127, e128, hf⟩ := hf
      refine g513 h dX2_line_44 k126 e128 ?_
      refine r_aload_n h 0 dX2_line_47 rfl rfl ?_
      obtain ⟨b129, e130, hf⟩ := hf
      refine g513 h dX2_line_48 k126 e130 ?_
      obtain ⟨k131, hf⟩ := hf
      refine g343 h dX2_line_51 k131 ?_
      obtain ⟨k132, hf⟩ := hf
      refine p374 h dX2_line_54 k132 ?_
      refine r_goW (fun M133 eM133 => ?_)
      have hf := hf M133 eM133
      refine r_goto (tgt := 398) h dX2_line_57 (by decide) ?_
      exact r_return h hq dX2_line_398 ⟨rfl, hf⟩)
    (by
      intro v0 M hf
      show V l G X 0 0 M 84 [(0, .ref v0)] []
      refine r_aload_n h 0 dX2_line_84 rfl rfl ?_
      obtain ⟨k134, hf⟩ := hf
      obtain ⟨b135, e136, hf⟩ := hf
      refine g513 h dX2_line_85 k134 e136 ?_
      refine r_aload_n h 0 dX2_line_88 rfl rfl ?_
      refine r_bipush (v := 10) h dX2_line_89 (by decide) ?_
      refine r_bipush (v := 99) h dX2_line_91 (by decide) ?_
      refine c915 hl h dX2_line_93 k134 hf (Nat.le_of_ble_eq_true rfl) (by decide) (by decide) (fun x138 M137 hf => ?_) (fun q9 E9 M9 hf => r_out h hq hf)
      obtain ⟨k139, hf⟩ := hf
      refine p347 h dX2_line_96 k139 ?_
      refine r_goW (fun M140 eM140 => ?_)
      have hf := hf M140 eM140
      refine r_aload_n h 0 dX2_line_99 rfl rfl ?_
      obtain ⟨k141, hf⟩ := hf
      obtain ⟨b142, e143, hf⟩ := hf
      refine g513 h dX2_line_100 k141 e143 ?_
      refine r_bipush (v := 10) h dX2_line_103 (by decide) ?_
      obtain ⟨k144, hf⟩ := hf
      refine p368 h dX2_line_105 k144 ?_
      refine r_goW (fun M145 eM145 => ?_)
      have hf := hf M145 eM145
      refine r_goto (tgt := 398) h dX2_line_108 (by decide) ?_
      exact r_return h hq dX2_line_398 ⟨rfl, hf⟩)
    (by
      intro v0 M hf
      show V l G X 0 0 M 289 [(0, .ref v0)] []
      refine r_aload_n h 0 dX2_line_289 rfl rfl ?_
      obtain ⟨k146, hf⟩ := hf
      refine c950 hl h dX2_line_290 k146 hf (Nat.le_of_ble_eq_true rfl) (by decide) (by decide) (fun x148 M147 hf => ?_) (fun q9 E9 M9 hf => r_out h hq hf)
      refine r_istore_n (lv' := [(2, .int x148), (0, .ref v0)]) h dX2_line_293 rfl (by decide) rfl ?_
      refine r_aload_n h 1 dX2_line_294 rfl rfl ?_
      obtain ⟨k149, hf⟩ := hf
      obtain ⟨b150, e151, hf⟩ := hf
      refine g513 h dX2_line_295 k149 e151 ?_
      obtain ⟨k152, hf⟩ := hf
      obtain ⟨b153, e154, hf⟩ := hf
      refine g330 h dX2_line_298 k152 e154 ?_
      refine r_aload_n h 1 dX2_line_301 rfl rfl ?_
      obtain ⟨b155, e156, hf⟩ := hf
      refine g513 h dX2_line_302 k149 e156 ?_
      obtain ⟨k157, hf⟩ := hf
      refine g359 h dX2_line_305 k157 ?_
      obtain ⟨j158, b159, e160, hf⟩ := hf
      refine r_aaload h 8 (by decide) (by decide) dX2_line_308 j158 (v := .ref b159) (by rw [e160]; rfl) ?_
      refine r_iconst (v := (-1)) h dX2_line_309 (by decide) ?_
      refine r_iconst (v := (-1)) h dX2_line_310 (by decide) ?_
      refine r_iload_n h 0 dX2_line_311 rfl rfl ?_
      refine r_aload_n h 1 dX2_line_312 rfl rfl ?_
      refine c930 hl h dX2_line_313 k149 hf (Nat.le_of_ble_eq_true rfl) (by decide) (by decide) (fun x162 M161 hf => ?_) (fun q9 E9 M9 hf => r_out h hq hf)
      refine r_aload_n h 1 dX2_line_316 rfl rfl ?_
      obtain ⟨k163, hf⟩ := hf
      obtain ⟨b164, e165, hf⟩ := hf
      refine g513 h dX2_line_317 k163 e165 ?_
      obtain ⟨k166, hf⟩ := hf
      refine g380 h dX2_line_320 k166 ?_
      obtain ⟨k167, hf⟩ := hf
      refine c956 hl h dX2_line_323 k167 hf (Nat.le_of_ble_eq_true rfl) (by decide) (by decide) (fun b169 M168 hf => ?_)
      refine r_astore_n (lv' := [(3, .ref b169), (2, .int x148), (0, .ref v0)]) h dX2_line_326 rfl (by decide) rfl ?_
      refine r_aload_n h 2 dX2_line_327 rfl rfl ?_
      obtain ⟨k170, hf⟩ := hf
      obtain ⟨b171, e172, hf⟩ := hf
      refine g513 h dX2_line_328 k170 e172 ?_
      refine r_dup h dX2_line_331 rfl ?_
      obtain ⟨k173, hf⟩ := hf
      refine g359 h dX2_line_332 k173 ?_
      refine r_iconst (v := 1) h dX2_line_335 (by decide) ?_
      refine r_iadd h dX2_line_336 ?_
      refine p359 h dX2_line_337 k173 ?_
      refine r_goW (fun M174 eM174 => ?_)
      have hf := hf M174 eM174
      refine r_goto (tgt := 398) h dX2_line_340 (by decide) ?_
      exact r_return h hq dX2_line_398 ⟨rfl, hf⟩)
    (by
      intro v0 M hf
      show V l G X 0 0 M 366 [(0, .ref v0)] []
      refine r_aload_n h 0 dX2_line_366 rfl rfl ?_
      refine r_aload_n h 0 dX2_line_367 rfl rfl ?_
      obtain ⟨k175, hf⟩ := hf
      obtain ⟨b176, e177, hf⟩ := hf
      refine g513 h dX2_line_368 k175 e177 ?_
      obtain ⟨k178, hf⟩ := hf
      obtain ⟨b179, e180, hf⟩ := hf
      refine g332 h dX2_line_371 k178 e180 ?_
      refine r_aload_n h 0 dX2_line_374 rfl rfl ?_
      obtain ⟨b181, e182, hf⟩ := hf
      refine g513 h dX2_line_375 k175 e182 ?_
      obtain ⟨k183, hf⟩ := hf
      refine g361 h dX2_line_378 k183 ?_
      obtain ⟨j184, b185, e186, hf⟩ := hf
      refine r_aaload h 5 (by decide) (by decide) dX2_line_381 j184 (v := .ref b185) (by rw [e186]; rfl) ?_
      refine c925 hl h dX2_line_382 k175 hf (Nat.le_of_ble_eq_true rfl) (by decide) (by decide) (fun M187 hf => ?_) (fun q9 E9 M9 hf => r_out h hq hf)
      refine r_aload_n h 0 dX2_line_385 rfl rfl ?_
      obtain ⟨k188, hf⟩ := hf
      obtain ⟨b189, e190, hf⟩ := hf
      refine g513 h dX2_line_386 k188 e190 ?_
      refine r_dup h dX2_line_389 rfl ?_
      obtain ⟨k191, hf⟩ := hf
      refine g361 h dX2_line_390 k191 ?_
      refine r_iconst (v := 1) h dX2_line_393 (by decide) ?_
      refine r_iadd h dX2_line_394 ?_
      refine p361 h dX2_line_395 k191 ?_
      refine r_goW (fun M192 eM192 => ?_)
      have hf := hf M192 eM192
      exact r_return h hq dX2_line_398 ⟨rfl, hf⟩)
  refine r_aload_n h 0 dX2_line_0 rfl rfl ?_
  obtain ⟨k1, hf⟩ := hf
  refine g517 h dX2_line_1 k1 ?_
  refine r_istore_n (lv' := [(1, .int (iv M a0 8)), (0, .ref a0)]) h dX2_line_4 rfl (by decide) rfl ?_
  refine r_aload_n h 1 dX2_line_5 rfl rfl ?_
  refine r_ldcS h (i := 10) (by decide) (List.mem_of_getElem? (i := 10) rfl) dX2_line_6 (fun w2 kw2 => ?_)
  have hf := hf w2 kw2
  refine c859 hl h dX2_line_8 k1 hf (Nat.le_of_ble_eq_true rfl) (by decide) (by decide) (fun x4 M3 hf => ?_)
  refine r_if_eq (tgt := 60) h dX2_line_11 (by decide) (fun c5 => ?_) (fun c5 => ?_)
  · have hf := ite_t c5 hf
    refine r_aload_n h 1 dX2_line_60 rfl rfl ?_
    refine r_ldcS h (i := 11) (by decide) (List.mem_of_getElem? (i := 11) rfl) dX2_line_61 (fun w6 kw6 => ?_)
    have hf := hf w6 kw6
    obtain ⟨k7, hf⟩ := hf
    refine c859 hl h dX2_line_63 k7 hf (Nat.le_of_ble_eq_true rfl) (by decide) (by decide) (fun x9 M8 hf => ?_)
    refine r_if_eq (tgt := 111) h dX2_line_66 (by decide) (fun c10 => ?_) (fun c10 => ?_)
    · have hf := ite_t c10 hf
      refine r_aload_n h 1 dX2_line_111 rfl rfl ?_
      refine r_ldcS h (i := 12) (by decide) (List.mem_of_getElem? (i := 12) rfl) dX2_line_112 (fun w11 kw11 => ?_)
      have hf := hf w11 kw11
      obtain ⟨k12, hf⟩ := hf
      refine c859 hl h dX2_line_114 k12 hf (Nat.le_of_ble_eq_true rfl) (by decide) (by decide) (fun x14 M13 hf => ?_)
      refine r_if_eq (tgt := 128) h dX2_line_117 (by decide) (fun c15 => ?_) (fun c15 => ?_)
      · have hf := ite_t c15 hf
        refine r_aload_n h 1 dX2_line_128 rfl rfl ?_
        refine r_ldcS h (i := 13) (by decide) (List.mem_of_getElem? (i := 13) rfl) dX2_line_129 (fun w16 kw16 => ?_)
        have hf := hf w16 kw16
        obtain ⟨k17, hf⟩ := hf
        refine c859 hl h dX2_line_131 k17 hf (Nat.le_of_ble_eq_true rfl) (by decide) (by decide) (fun x19 M18 hf => ?_)
        refine r_if_eq (tgt := 171) h dX2_line_134 (by decide) (fun c20 => ?_) (fun c20 => ?_)
        · have hf := ite_t c20 hf
          refine r_aload_n h 1 dX2_line_171 rfl rfl ?_
          refine r_ldcS h (i := 15) (by decide) (List.mem_of_getElem? (i := 15) rfl) dX2_line_172 (fun w21 kw21 => ?_)
          have hf := hf w21 kw21
          obtain ⟨k22, hf⟩ := hf
          refine c859 hl h dX2_line_174 k22 hf (Nat.le_of_ble_eq_true rfl) (by decide) (by decide) (fun x24 M23 hf => ?_)
          refine r_if_eq (tgt := 202) h dX2_line_177 (by decide) (fun c25 => ?_) (fun c25 => ?_)
          · have hf := ite_t c25 hf
            refine r_aload_n h 1 dX2_line_202 rfl rfl ?_
            refine r_ldcS h (i := 16) (by decide) (List.mem_of_getElem? (i := 16) rfl) dX2_line_203 (fun w26 kw26 => ?_)
            have hf := hf w26 kw26
            obtain ⟨k27, hf⟩ := hf
            refine c859 hl h dX2_line_205 k27 hf (Nat.le_of_ble_eq_true rfl) (by decide) (by decide) (fun x29 M28 hf => ?_)
            refine r_if_eq (tgt := 229) h dX2_line_208 (by decide) (fun c30 => ?_) (fun c30 => ?_)
            · have hf := ite_t c30 hf
              refine r_aload_n h 1 dX2_line_229 rfl rfl ?_
              refine r_ldcS h (i := 17) (by decide) (List.mem_of_getElem? (i := 17) rfl) dX2_line_230 (fun w31 kw31 => ?_)
              have hf := hf w31 kw31
              obtain ⟨k32, hf⟩ := hf
              refine c859 hl h dX2_line_232 k32 hf (Nat.le_of_ble_eq_true rfl) (by decide) (by decide) (fun x34 M33 hf => ?_)
              refine r_if_eq (tgt := 246) h dX2_line_235 (by decide) (fun c35 => ?_) (fun c35 => ?_)
              · have hf := ite_t c35 hf
                refine r_aload_n h 1 dX2_line_246 rfl rfl ?_
                refine r_ldcS h (i := 5) (by decide) (List.mem_of_getElem? (i := 5) rfl) dX2_line_247 (fun w36 kw36 => ?_)
                have hf := hf w36 kw36
                obtain ⟨k37, hf⟩ := hf
                refine c859 hl h dX2_line_249 k37 hf (Nat.le_of_ble_eq_true rfl) (by decide) (by decide) (fun x39 M38 hf => ?_)
                refine r_if_eq (tgt := 263) h dX2_line_252 (by decide) (fun c40 => ?_) (fun c40 => ?_)
                · have hf := ite_t c40 hf
                  refine r_aload_n h 1 dX2_line_263 rfl rfl ?_
                  refine r_ldcS h (i := 19) (by decide) (List.mem_of_getElem? (i := 19) rfl) dX2_line_264 (fun w41 kw41 => ?_)
                  have hf := hf w41 kw41
                  obtain ⟨k42, hf⟩ := hf
                  refine c859 hl h dX2_line_266 k42 hf (Nat.le_of_ble_eq_true rfl) (by decide) (by decide) (fun x44 M43 hf => ?_)
                  refine r_if_eq (tgt := 343) h dX2_line_269 (by decide) (fun c45 => ?_) (fun c45 => ?_)
                  · have hf := ite_t c45 hf
                    refine r_aload_n h 1 dX2_line_343 rfl rfl ?_
                    refine r_ldcS h (i := 20) (by decide) (List.mem_of_getElem? (i := 20) rfl) dX2_line_344 (fun w46 kw46 => ?_)
                    have hf := hf w46 kw46
                    obtain ⟨k47, hf⟩ := hf
                    refine c935 hl h dX2_line_346 k47 hf (Nat.le_of_ble_eq_true rfl) (by decide) (by decide) (fun M48 hf => ?_) (fun q9 E9 M9 hf => r_out h hq hf)
                    refine r_aload_n h 1 dX2_line_349 rfl rfl ?_
                    obtain ⟨k49, hf⟩ := hf
                    obtain ⟨b50, e51, hf⟩ := hf
                    refine g513 h dX2_line_350 k49 e51 ?_
                    obtain ⟨k52, hf⟩ := hf
                    refine g361 h dX2_line_353 k52 ?_
                    refine r_bipush (v := 6) h dX2_line_356 (by decide) ?_
                    refine r_icmp_ne (tgt := 366) h dX2_line_358 (by decide) (fun c53 => ?_) (fun c53 => ?_)
                    · have hf := ite_f c53 hf
                      exact V.sub [1] rfl hf
                    · have hf := ite_t c53 hf
                      refine r_aload_n h 1 dX2_line_361 rfl rfl ?_
                      refine r_iload_n h 0 dX2_line_362 rfl rfl ?_
                      refine c850 hl h dX2_line_363 k49 hf (Nat.le_of_ble_eq_true rfl) (by decide) (by decide) (fun M54 hf => ?_) (fun q9 E9 M9 hf => r_out h hq hf)
                      exact V.sub [1] rfl hf
                  · have hf := ite_f c45 hf
                    refine r_aload_n h 1 dX2_line_272 rfl rfl ?_
                    obtain ⟨k55, hf⟩ := hf
                    obtain ⟨b56, e57, hf⟩ := hf
                    refine g513 h dX2_line_273 k55 e57 ?_
                    obtain ⟨k58, hf⟩ := hf
                    refine g359 h dX2_line_276 k58 ?_
                    refine r_bipush (v := 24) h dX2_line_279 (by decide) ?_
                    refine r_icmp_ne (tgt := 289) h dX2_line_281 (by decide) (fun c59 => ?_) (fun c59 => ?_)
                    · have hf := ite_f c59 hf
                      exact V.sub [1] rfl hf
                    · have hf := ite_t c59 hf
                      refine r_aload_n h 1 dX2_line_284 rfl rfl ?_
                      refine r_iload_n h 0 dX2_line_285 rfl rfl ?_
                      refine c850 hl h dX2_line_286 k55 hf (Nat.le_of_ble_eq_true rfl) (by decide) (by decide) (fun M60 hf => ?_) (fun q9 E9 M9 hf => r_out h hq hf)
                      exact V.sub [1] rfl hf
                · have hf := ite_f c40 hf
                  refine r_aload_n h 1 dX2_line_255 rfl rfl ?_
                  refine r_iload_n h 0 dX2_line_256 rfl rfl ?_
                  obtain ⟨k61, hf⟩ := hf
                  refine c946 hl h dX2_line_257 k61 hf (Nat.le_of_ble_eq_true rfl) (by decide) (by decide) (fun M62 hf => ?_) (fun q9 E9 M9 hf => r_out h hq hf)
                  refine r_goto (tgt := 398) h dX2_line_260 (by decide) ?_
                  exact r_return h hq dX2_line_398 ⟨rfl, hf⟩
              · have hf := ite_f c35 hf
                refine r_aload_n h 1 dX2_line_238 rfl rfl ?_
                refine r_iload_n h 0 dX2_line_239 rfl rfl ?_
                obtain ⟨k63, hf⟩ := hf
                refine c942 hl h dX2_line_240 k63 hf (Nat.le_of_ble_eq_true rfl) (by decide) (by decide) (fun M64 hf => ?_) (fun q9 E9 M9 hf => r_out h hq hf)
                refine r_goto (tgt := 398) h dX2_line_243 (by decide) ?_
                exact r_return h hq dX2_line_398 ⟨rfl, hf⟩
            · have hf := ite_f c30 hf
              refine r_aload_n h 1 dX2_line_211 rfl rfl ?_
              obtain ⟨k65, hf⟩ := hf
              obtain ⟨b66, e67, hf⟩ := hf
              refine g513 h dX2_line_212 k65 e67 ?_
              refine r_aload_n h 1 dX2_line_215 rfl rfl ?_
              refine r_iconst (v := 0) h dX2_line_216 (by decide) ?_
              refine r_sipush (v := 9999) h dX2_line_217 (by decide) ?_
              refine c915 hl h dX2_line_220 k65 hf (Nat.le_of_ble_eq_true rfl) (by decide) (by decide) (fun x69 M68 hf => ?_) (fun q9 E9 M9 hf => r_out h hq hf)
              obtain ⟨k70, hf⟩ := hf
              refine p377 h dX2_line_223 k70 ?_
              refine r_goW (fun M71 eM71 => ?_)
              have hf := hf M71 eM71
              refine r_goto (tgt := 398) h dX2_line_226 (by decide) ?_
              exact r_return h hq dX2_line_398 ⟨rfl, hf⟩
          · have hf := ite_f c25 hf
            refine r_aload_n h 1 dX2_line_180 rfl rfl ?_
            obtain ⟨k72, hf⟩ := hf
            obtain ⟨b73, e74, hf⟩ := hf
            refine g513 h dX2_line_181 k72 e74 ?_
            refine r_aload_n h 1 dX2_line_184 rfl rfl ?_
            refine r_iconst (v := 0) h dX2_line_185 (by decide) ?_
            refine r_aload_n h 1 dX2_line_186 rfl rfl ?_
            obtain ⟨b75, e76, hf⟩ := hf
            refine g513 h dX2_line_187 k72 e76 ?_
            obtain ⟨k77, hf⟩ := hf
            refine g343 h dX2_line_190 k77 ?_
            refine c915 hl h dX2_line_193 k72 hf (Nat.le_of_ble_eq_true rfl) (by decide) (by decide) (fun x79 M78 hf => ?_) (fun q9 E9 M9 hf => r_out h hq hf)
            obtain ⟨k80, hf⟩ := hf
            refine p374 h dX2_line_196 k80 ?_
            refine r_goW (fun M81 eM81 => ?_)
            have hf := hf M81 eM81
            refine r_goto (tgt := 398) h dX2_line_199 (by decide) ?_
            exact r_return h hq dX2_line_398 ⟨rfl, hf⟩
        · have hf := ite_f c20 hf
          refine r_aload_n h 1 dX2_line_137 rfl rfl ?_
          obtain ⟨k82, hf⟩ := hf
          obtain ⟨b83, e84, hf⟩ := hf
          refine g513 h dX2_line_138 k82 e84 ?_
          refine r_aload_n h 1 dX2_line_141 rfl rfl ?_
          refine c930 hl h dX2_line_142 k82 hf (Nat.le_of_ble_eq_true rfl) (by decide) (by decide) (fun x86 M85 hf => ?_) (fun q9 E9 M9 hf => r_out h hq hf)
          obtain ⟨k87, hf⟩ := hf
          refine p368 h dX2_line_145 k87 ?_
          refine r_goW (fun M88 eM88 => ?_)
          have hf := hf M88 eM88
          refine r_aload_n h 1 dX2_line_148 rfl rfl ?_
          refine r_ldcS h (i := 14) (by decide) (List.mem_of_getElem? (i := 14) rfl) dX2_line_149 (fun w89 kw89 => ?_)
          have hf := hf w89 kw89
          obtain ⟨k90, hf⟩ := hf
          refine c935 hl h dX2_line_151 k90 hf (Nat.le_of_ble_eq_true rfl) (by decide) (by decide) (fun M91 hf => ?_) (fun q9 E9 M9 hf => r_out h hq hf)
          refine r_aload_n h 1 dX2_line_154 rfl rfl ?_
          obtain ⟨k92, hf⟩ := hf
          obtain ⟨b93, e94, hf⟩ := hf
          refine g513 h dX2_line_155 k92 e94 ?_
          refine r_aload_n h 1 dX2_line_158 rfl rfl ?_
          refine r_iconst (v := 0) h dX2_line_159 (by decide) ?_
          refine r_bipush (v := 9) h dX2_line_160 (by decide) ?_
          refine c915 hl h dX2_line_162 k92 hf (Nat.le_of_ble_eq_true rfl) (by decide) (by decide) (fun x96 M95 hf => ?_) (fun q9 E9 M9 hf => r_out h hq hf)
          obtain ⟨k97, hf⟩ := hf
          refine p371 h dX2_line_165 k97 ?_
          refine r_goW (fun M98 eM98 => ?_)
          have hf := hf M98 eM98
          refine r_goto (tgt := 398) h dX2_line_168 (by decide) ?_
          exact r_return h hq dX2_line_398 ⟨rfl, hf⟩
      · have hf := ite_f c15 hf
        refine r_aload_n h 1 dX2_line_120 rfl rfl ?_
        refine r_iload_n h 0 dX2_line_121 rfl rfl ?_
        obtain ⟨k99, hf⟩ := hf
        refine c921 hl h dX2_line_122 k99 hf (Nat.le_of_ble_eq_true rfl) (by decide) (by decide) (fun M100 hf => ?_) (fun q9 E9 M9 hf => r_out h hq hf)
        refine r_goto (tgt := 398) h dX2_line_125 (by decide) ?_
        exact r_return h hq dX2_line_398 ⟨rfl, hf⟩
    · have hf := ite_f c10 hf
      refine r_aload_n h 1 dX2_line_69 rfl rfl ?_
      obtain ⟨k101, hf⟩ := hf
      obtain ⟨b102, e103, hf⟩ := hf
      refine g513 h dX2_line_70 k101 e103 ?_
      obtain ⟨k104, hf⟩ := hf
      refine c911 hl h dX2_line_73 k104 hf (Nat.le_of_ble_eq_true rfl) (by decide) (by decide) (fun x106 M105 hf => ?_)
      refine r_if_eq (tgt := 84) h dX2_line_76 (by decide) (fun c107 => ?_) (fun c107 => ?_)
      · have hf := ite_t c107 hf
        exact V.sub [1] rfl hf
      · have hf := ite_f c107 hf
        refine r_aload_n h 1 dX2_line_79 rfl rfl ?_
        refine r_iload_n h 0 dX2_line_80 rfl rfl ?_
        obtain ⟨k108, hf⟩ := hf
        refine c850 hl h dX2_line_81 k108 hf (Nat.le_of_ble_eq_true rfl) (by decide) (by decide) (fun M109 hf => ?_) (fun q9 E9 M9 hf => r_out h hq hf)
        exact V.sub [1] rfl hf
  · have hf := ite_f c5 hf
    refine r_aload_n h 1 dX2_line_14 rfl rfl ?_
    obtain ⟨k110, hf⟩ := hf
    obtain ⟨b111, e112, hf⟩ := hf
    refine g513 h dX2_line_15 k110 e112 ?_
    obtain ⟨k113, hf⟩ := hf
    refine c911 hl h dX2_line_18 k113 hf (Nat.le_of_ble_eq_true rfl) (by decide) (by decide) (fun x115 M114 hf => ?_)
    refine r_if_eq (tgt := 29) h dX2_line_21 (by decide) (fun c116 => ?_) (fun c116 => ?_)
    · have hf := ite_t c116 hf
      exact V.sub [1] rfl hf
    · have hf := ite_f c116 hf
      refine r_aload_n h 1 dX2_line_24 rfl rfl ?_
      refine r_iload_n h 0 dX2_line_25 rfl rfl ?_
      obtain ⟨k117, hf⟩ := hf
      refine c850 hl h dX2_line_26 k117 hf (Nat.le_of_ble_eq_true rfl) (by decide) (by decide) (fun M118 hf => ?_) (fun q9 E9 M9 hf => r_out h hq hf)
      exact V.sub [1] rfl hf
theorem c854 {l : Launch} {G : gG} {X : gX} {cc : ByteArray} {nL F L bc bs pc : Nat} {M : gM} {lv : List (Nat × Value)} {rest : List Value} {a0 : Nat} {K : gM → Prop} {KX : Addr → String → gM → Prop} (hl : l.stackTraces = false) (h : hX l G X cc nL "GlacierMail$Reader" F L) (d : decode cc pc = .ok (.invokevirtual 109, 3)) (hk : kd M a0 = some (.inl 2)) (hf : f_X2_line a0 M K KX) (hst : (rest.map fun v => v.category).sum ≤ 8) (hF : 7 ≤ F) (hL : 155 ≤ L) (kk : ∀ M1, K M1 → V l G X bc bs M1 (pc + 3) lv rest) (kx : ∀ q E M1, KX q E M1 → VX l G X bc bs M1 pc lv q E) : V l G X bc bs M pc lv (.ref a0 :: rest) := r_callV (n := 0) (As := []) h (m_X2_line hl hf) 2 rfl hk rfl ⟨by decide, by decide, by decide +kernel⟩ d q854 q856 qs13 q136 q857 rfl rfl hst hF hL (Nat.zero_le _) (Nat.zero_le _) (kV_go kk) kx
