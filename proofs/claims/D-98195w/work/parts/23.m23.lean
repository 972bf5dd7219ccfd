def f_X1_table (a0 : Nat) (a1 : Int32) (a2 : Int32) (M : gM) (K : Int32 → gM → Prop) (KX : Addr → String → gM → Prop) : Prop :=
  kd M a0 = some (.inl 1) ∧ f_X1_tableAt a0 a1 M (fun b3 M2 => kd M2 a0 = some (.inl 1) ∧ f_X1_isLane a0 a2 M2 (fun M5 => kd M5 b3 = some (.inl 4) ∧ ∃ b7, rv M5 b3 0 = some b7 ∧ inA M5 b7 0 a2 ∧ K (iv M5 b7 (ix a2)) M5) KX) KX
set_option maxHeartbeats 4000000 in
theorem m_X1_table {l : Launch} (hl : l.stackTraces = false) {G : gG} {a0 : Nat} {a1 : Int32} {a2 : Int32} {M : gM} {K : Int32 → gM → Prop} {KX : Addr → String → gM → Prop} (hf : f_X1_table a0 a1 a2 M K KX) : gMet l G yX1_table (ws_ yX1_table cX1_table 4 (some Jvm.ClassFile.FieldType.int)) ({ frames := 14, cells := 2, slots := 12, locals := 241 }) M [.ref a0, .int a1, .int a2] (kI K) KX := by
  refine gm_of hl (ret := (some Jvm.ClassFile.FieldType.int)) rfl (Nat.le_of_ble_eq_true rfl) (fun X h hq => ?_)
  have h : hX l G X cX1_table 4 "GlacierMail" 14 241 := h
  have hf := hf
  show V l G X 2 12 M 0 [(0, .ref a0), (1, .int a1), (2, .int a2)] []
  unfold f_X1_table at hf
  refine r_aload_n h 0 dX1_table_0 rfl rfl ?_
  refine r_iload_n h 1 dX1_table_1 rfl rfl ?_
  obtain ⟨k1, hf⟩ := hf
  refine c1456 hl h dX1_table_2 k1 hf (Nat.le_of_ble_eq_true rfl) (by decide) (by decide) (by decide) (by decide) (fun b3 M2 hf => ?_) (fun q9 E9 M9 hf => r_out h hq hf)
  refine r_astore_n (lv' := [(3, .ref b3), (0, .ref a0), (1, .int a1), (2, .int a2)]) h dX1_table_5 rfl (by decide) rfl ?_
  refine r_aload_n h 1 dX1_table_6 rfl rfl ?_
  refine r_iload_n h 3 dX1_table_7 rfl rfl ?_
  obtain ⟨k4, hf⟩ := hf
  refine c1189 hl h dX1_table_8 k4 hf (Nat.le_of_ble_eq_true rfl) (by decide) (by decide) (by decide) (by decide) (fun M5 hf => ?_) (fun q9 E9 M9 hf => r_out h hq hf)
  refine r_aload_n h 0 dX1_table_11 rfl rfl ?_
  obtain ⟨k6, hf⟩ := hf
  obtain ⟨b7, e8, hf⟩ := hf
  refine g220 h dX1_table_12 k6 e8 ?_
  refine r_iload_n h 3 dX1_table_15 rfl rfl ?_
  obtain ⟨j9, hf⟩ := hf
  refine r_iaload h dX1_table_16 j9 ?_
  exact r_ireturn h hq dX1_table_17 ⟨_, rfl, hf⟩
theorem c1452 {l : Launch} {G : gG} {X : gX} {cc : ByteArray} {nL F L bc bs pc : Nat} {M : gM} {lv : List (Nat × Value)} {rest : List Value} {a0 : Nat} {a1 : Int32} {a2 : Int32} {K : Int32 → gM → Prop} {KX : Addr → String → gM → Prop} (hl : l.stackTraces = false) (h : hX l G X cc nL "GlacierMailLaw" F L) (d : decode cc pc = .ok (.invokevirtual 87, 3)) (hk : kd M a0 = some (.inl 1)) (hf : f_X1_table a0 a1 a2 M K KX) (hst : (rest.map fun v => v.category).sum ≤ 8) (hF : 15 ≤ F) (hL : 264 ≤ L) (h1 : 2 ≤ bc) (h2 : 12 ≤ bs) (kk : ∀ x M1, K x M1 → V l G X (bc - 2) (bs - 12) M1 (pc + 3) lv (.int x :: rest)) (kx : ∀ q E M1, KX q E M1 → VX l G X (bc - 2) (bs - 12) M1 pc lv q E) : V l G X bc bs M pc lv (.int a2 :: .int a1 :: .ref a0 :: rest) := r_callV (n := 2) (As := [.int a1, .int a2]) h (m_X1_table hl hf) 1 rfl hk rfl ⟨by decide, by decide, by decide +kernel⟩ d q1452 q1453 q1454 q135 q1455 rfl rfl hst hF hL h1 h2 (kI_go kk) kx
def f_X0_table (a0 : Nat) (a1 : Int32) (a2 : Int32) (a3 : Nat) (M : gM) (K : Int32 → gM → Prop) : Prop :=
  kd M a0 = some (.inl 1) ∧ f_X1_table a0 a1 a2 M (fun x3 M2 => inA M2 a3 2 0 ∧ ∀ M5, M5 = sJ M2 a3 (ix 0) (x3.toInt64) → K 0 M5) (fun q9 E9 M9 => (E9 = "java/lang/IndexOutOfBoundsException" ∧ K 1 M9))
set_option maxHeartbeats 4000000 in
theorem m_X0_table {l : Launch} (hl : l.stackTraces = false) {G : gG} {a0 : Nat} {a1 : Int32} {a2 : Int32} {a3 : Nat} {M : gM} {K : Int32 → gM → Prop} (hf : f_X0_table a0 a1 a2 a3 M K) : gMet l G yX0_table (wsW_ yX0_table cX0_table 5 (some Jvm.ClassFile.FieldType.int) [(0, 10, 13, 28)]) ({ frames := 15, cells := 2, slots := 12, locals := 264 }) M [.ref a0, .int a1, .int a2, .ref a3] (kI K) kN := by
  refine gm_ofH hl (ret := (some Jvm.ClassFile.FieldType.int)) rfl (Nat.le_of_ble_eq_true rfl) (fun X h hq => ?_)
  have h : hX l G X cX0_table 5 "GlacierMailLaw" 15 264 := h
  have hf := hf
  show V l G X 2 12 M 0 [(0, .ref a0), (1, .int a1), (2, .int a2), (3, .ref a3)] []
  unfold f_X0_table at hf
  refine r_aload_n h 3 dX0_table_0 rfl rfl ?_
  refine r_iconst (v := 0) h dX0_table_1 (by decide) ?_
  refine r_aload_n h 0 dX0_table_2 rfl rfl ?_
  refine r_iload_n h 1 dX0_table_3 rfl rfl ?_
  refine r_iload_n h 2 dX0_table_4 rfl rfl ?_
  obtain ⟨k1, hf⟩ := hf
  refine c1452 hl h dX0_table_5 k1 hf (Nat.le_of_ble_eq_true rfl) (by decide) (by decide) (by decide) (by decide) (fun x3 M2 hf => ?_) (fun q9 E9 M9 hf => ?_)
  · skip
    refine r_i2l h dX0_table_8 ?_
    obtain ⟨j4, hf⟩ := hf
    refine r_lastore h dX0_table_9 j4 ?_
    refine r_goW (fun M5 eM5 => ?_)
    have hf := hf M5 eM5
    refine r_goto (tgt := 17) h dX0_table_10 (by decide) ?_
    refine r_iconst (v := 0) h dX0_table_17 (by decide) ?_
    exact r_ireturn h hq dX0_table_18 ⟨_, rfl, hf⟩
  · rcases hf with ⟨rfl, hf⟩
    · refine r_catch h hq 0 (E := "java/lang/IndexOutOfBoundsException") (nm := "java/lang/IndexOutOfBoundsException") rfl (fun z hz => nomatch hz) (by decide) (by decide) q1153 (List.mem_of_getElem? (i := 8) rfl) ?_
      refine r_astore (lv' := [(4, .ref q9), (0, .ref a0), (1, .int a1), (2, .int a2), (3, .ref a3)]) h dX0_table_13 (by decide) rfl ?_
      refine r_iconst (v := 1) h dX0_table_15 (by decide) ?_
      exact r_ireturn h hq dX0_table_16 ⟨_, rfl, hf⟩
theorem c1449 {l : Launch} {G : gG} {X : gX} {cc : ByteArray} {nL F L bc bs pc : Nat} {M : gM} {lv : List (Nat × Value)} {rest : List Value} {a0 : Nat} {a1 : Int32} {a2 : Int32} {a3 : Nat} {K : Int32 → gM → Prop} (hl : l.stackTraces = false) (h : hX l G X cc nL "GlacierMailLaw" F L) (d : decode cc pc = .ok (.invokestatic 235, 3)) (hf : f_X0_table a0 a1 a2 a3 M K) (hst : (rest.map fun v => v.category).sum ≤ 8) (hF : 16 ≤ F) (hL : 288 ≤ L) (h1 : 2 ≤ bc) (h2 : 12 ≤ bs) (kk : ∀ x M1, K x M1 → V l G X (bc - 2) (bs - 12) M1 (pc + 3) lv (.int x :: rest)) : V l G X bc bs M pc lv (.ref a3 :: .int a2 :: .int a1 :: .ref a0 :: rest) := r_callSH (n := 4) (As := [.ref a0, .int a1, .int a2, .ref a3]) h (m_X0_table hl hf) ⟨by decide, by decide, by decide +kernel⟩ d q1449 q1450 q134 q1451 rfl rfl hst hF hL h1 h2 (kI_go kk) kN_go
def f_X1_areApart (a0 : Nat) (a1 : Nat) (a2 : Nat) (a3 : Int32) (M : gM) (K : Int32 → gM → Prop) : Prop :=
  ∀ P3 : Nat → Nat → Nat → Int32 → Int32 → gM → Prop,
  (∀ (v0 : Nat) (v1 : Nat) (v2 : Nat) (v3 : Int32) (v4 : Int32) (M : gM), (kd M v0 = some (.inl 1) ∧ ∃ b2, rv M v0 1 = some b2 ∧ kd M b2 = some (.inl 3) ∧ if (iv M b2 9) ≤ v4 then K 0 M else if ((v3 >>> (v4 &&& 31)) &&& 1) = 1 then kd M v1 = some (.inl 4) ∧ ∃ b8, rv M v1 0 = some b8 ∧ inA M b8 0 v4 ∧ kd M v2 = some (.inl 4) ∧ ∃ b12, rv M v2 0 = some b12 ∧ inA M b12 0 v4 ∧ if (iv M b8 (ix v4)) = (iv M b12 (ix v4)) then P3 v0 v1 v2 v3 (v4 + 1) M else K 1 M else P3 v0 v1 v2 v3 (v4 + 1) M) → P3 v0 v1 v2 v3 v4 M) →
  P3 a0 a1 a2 a3 0 M
set_option maxHeartbeats 4000000 in
theorem m_X1_areApart {l : Launch} (hl : l.stackTraces = false) {G : gG} {a0 : Nat} {a1 : Nat} {a2 : Nat} {a3 : Int32} {M : gM} {K : Int32 → gM → Prop} (hf : f_X1_areApart a0 a1 a2 a3 M K) : gMet l G yX1_areApart (ws_ yX1_areApart cX1_areApart 5 (some Jvm.ClassFile.FieldType.boolean)) ({ frames := 0, cells := 0, slots := 0, locals := 0 }) M [.ref a0, .ref a1, .ref a2, .int a3] (kI K) kN := by
  refine gm_of hl (ret := (some Jvm.ClassFile.FieldType.boolean)) rfl (Nat.le_of_ble_eq_true rfl) (fun X h hq => ?_)
  have h : hX l G X cX1_areApart 5 "GlacierMail" 0 0 := h
  have hf := hf
  show V l G X 0 0 M 0 [(0, .ref a0), (1, .ref a1), (2, .ref a2), (3, .int a3)] []
  have hf := hf
    (fun v0 v1 v2 v3 v4 M => V l G X 0 0 M 3 [(0, .ref v0), (1, .ref v1), (2, .ref v2), (3, .int v3), (4, .int v4)] [])
    (by
      intro v0 v1 v2 v3 v4 M hf
      show V l G X 0 0 M 3 [(0, .ref v0), (1, .ref v1), (2, .ref v2), (3, .int v3), (4, .int v4)] []
      refine r_iload h 4 dX1_areApart_3 rfl ?_
      refine r_aload_n h 0 dX1_areApart_5 rfl rfl ?_
      obtain ⟨k1, hf⟩ := hf
      obtain ⟨b2, e3, hf⟩ := hf
      refine g573 h dX1_areApart_6 k1 e3 ?_
      obtain ⟨k4, hf⟩ := hf
      refine g342 h dX1_areApart_9 k4 ?_
      refine r_icmp_ge (tgt := 50) h dX1_areApart_12 (by decide) (fun c5 => ?_) (fun c5 => ?_)
      · have hf := ite_t c5 hf
        refine r_iconst (v := 0) h dX1_areApart_50 (by decide) ?_
        exact r_zreturn h hq dX1_areApart_51 (by decide) ⟨_, rfl, hf⟩
      · have hf := ite_f c5 hf
        refine r_iload_n h 3 dX1_areApart_15 rfl rfl ?_
        refine r_iload h 4 dX1_areApart_16 rfl ?_
        refine r_ishr h dX1_areApart_18 ?_
        refine r_iconst (v := 1) h dX1_areApart_19 (by decide) ?_
        refine r_iand h dX1_areApart_20 ?_
        refine r_iconst (v := 1) h dX1_areApart_21 (by decide) ?_
        refine r_icmp_ne (tgt := 44) h dX1_areApart_22 (by decide) (fun c6 => ?_) (fun c6 => ?_)
        · have hf := ite_f c6 hf
          refine r_iinc (v := v4 + 1) (lv' := [(4, .int (v4 + 1)), (0, .ref v0), (1, .ref v1), (2, .ref v2), (3, .int v3)]) h 4 dX1_areApart_44 rfl rfl (by decide) rfl ?_
          refine r_goto (tgt := 3) h dX1_areApart_47 (by decide) ?_
          exact V.sub [1, 2, 3, 4, 0] rfl hf
        · have hf := ite_t c6 hf
          refine r_aload_n h 1 dX1_areApart_25 rfl rfl ?_
          obtain ⟨k7, hf⟩ := hf
          obtain ⟨b8, e9, hf⟩ := hf
          refine g220 h dX1_areApart_26 k7 e9 ?_
          refine r_iload h 4 dX1_areApart_29 rfl ?_
          obtain ⟨j10, hf⟩ := hf
          refine r_iaload h dX1_areApart_31 j10 ?_
          refine r_aload_n h 2 dX1_areApart_32 rfl rfl ?_
          obtain ⟨k11, hf⟩ := hf
          obtain ⟨b12, e13, hf⟩ := hf
          refine g220 h dX1_areApart_33 k11 e13 ?_
          refine r_iload h 4 dX1_areApart_36 rfl ?_
          obtain ⟨j14, hf⟩ := hf
          refine r_iaload h dX1_areApart_38 j14 ?_
          refine r_icmp_eq (tgt := 44) h dX1_areApart_39 (by decide) (fun c15 => ?_) (fun c15 => ?_)
          · have hf := ite_t c15 hf
            refine r_iinc (v := v4 + 1) (lv' := [(4, .int (v4 + 1)), (0, .ref v0), (1, .ref v1), (2, .ref v2), (3, .int v3)]) h 4 dX1_areApart_44 rfl rfl (by decide) rfl ?_
            refine r_goto (tgt := 3) h dX1_areApart_47 (by decide) ?_
            exact V.sub [1, 2, 3, 4, 0] rfl hf
          · have hf := ite_f c15 hf
            refine r_iconst (v := 1) h dX1_areApart_42 (by decide) ?_
            exact r_zreturn h hq dX1_areApart_43 (by decide) ⟨_, rfl, hf⟩)
  refine r_iconst (v := 0) h dX1_areApart_0 (by decide) ?_
  refine r_istore (lv' := [(4, .int 0), (0, .ref a0), (1, .ref a1), (2, .ref a2), (3, .int a3)]) h dX1_areApart_1 (by decide) rfl ?_
  exact V.sub [1, 2, 3, 4, 0] rfl hf
theorem c759 {l : Launch} {G : gG} {X : gX} {cc : ByteArray} {nL F L bc bs pc : Nat} {M : gM} {lv : List (Nat × Value)} {rest : List Value} {a0 : Nat} {a1 : Nat} {a2 : Nat} {a3 : Int32} {K : Int32 → gM → Prop} (hl : l.stackTraces = false) (h : hX l G X cc nL "GlacierMail" F L) (d : decode cc pc = .ok (.invokevirtual 369, 3)) (hk : kd M a0 = some (.inl 1)) (hf : f_X1_areApart a0 a1 a2 a3 M K) (hst : (rest.map fun v => v.category).sum ≤ 8) (hF : 1 ≤ F) (hL : 24 ≤ L) (kk : ∀ x M1, K x M1 → V l G X bc bs M1 (pc + 3) lv (.int x :: rest)) : V l G X bc bs M pc lv (.int a3 :: .ref a2 :: .ref a1 :: .ref a0 :: rest) := r_callV (n := 3) (As := [.ref a1, .ref a2, .int a3]) h (m_X1_areApart hl hf) 1 rfl hk rfl ⟨by decide, by decide, by decide +kernel⟩ d q759 q761 qs5 q135 q762 rfl rfl hst hF hL (Nat.zero_le _) (Nat.zero_le _) (kI_go kk) kN_go
def f_X1_apart (a0 : Nat) (a1 : Int32) (a2 : Int32) (a3 : Int32) (M : gM) (K : Int32 → gM → Prop) (KX : Addr → String → gM → Prop) : Prop :=
  kd M a0 = some (.inl 1) ∧ f_X1_tableAt a0 a1 M (fun b3 M2 => kd M2 a0 = some (.inl 1) ∧ f_X1_tableAt a0 a2 M2 (fun b6 M5 => kd M5 a0 = some (.inl 1) ∧ f_X1_areApart a0 b3 b6 a3 M5 (fun x9 M8 => (x9 = 0 ∨ x9 = 1) ∧ K x9 M8)) KX) KX
set_option maxHeartbeats 4000000 in
theorem m_X1_apart {l : Launch} (hl : l.stackTraces = false) {G : gG} {a0 : Nat} {a1 : Int32} {a2 : Int32} {a3 : Int32} {M : gM} {K : Int32 → gM → Prop} {KX : Addr → String → gM → Prop} (hf : f_X1_apart a0 a1 a2 a3 M K KX) : gMet l G yX1_apart (ws_ yX1_apart cX1_apart 4 (some Jvm.ClassFile.FieldType.boolean)) ({ frames := 14, cells := 2, slots := 12, locals := 241 }) M [.ref a0, .int a1, .int a2, .int a3] (kI K) KX := by
  refine gm_of hl (ret := (some Jvm.ClassFile.FieldType.boolean)) rfl (Nat.le_of_ble_eq_true rfl) (fun X h hq => ?_)
  have h : hX l G X cX1_apart 4 "GlacierMail" 14 241 := h
  have hf := hf
  show V l G X 2 12 M 0 [(0, .ref a0), (1, .int a1), (2, .int a2), (3, .int a3)] []
  unfold f_X1_apart at hf
  refine r_aload_n h 0 dX1_apart_0 rfl rfl ?_
  refine r_aload_n h 0 dX1_apart_1 rfl rfl ?_
  refine r_iload_n h 1 dX1_apart_2 rfl rfl ?_
  obtain ⟨k1, hf⟩ := hf
  refine c1456 hl h dX1_apart_3 k1 hf (Nat.le_of_ble_eq_true rfl) (by decide) (by decide) (by decide) (by decide) (fun b3 M2 hf => ?_) (fun q9 E9 M9 hf => r_out h hq hf)
  refine r_aload_n h 0 dX1_apart_6 rfl rfl ?_
  refine r_iload_n h 2 dX1_apart_7 rfl rfl ?_
  obtain ⟨k4, hf⟩ := hf
  refine c1456 hl h dX1_apart_8 k4 hf (Nat.le_of_ble_eq_true rfl) (by decide) (by decide) (by decide) (by decide) (fun b6 M5 hf => ?_) (fun q9 E9 M9 hf => r_out h hq hf)
  refine r_iload_n h 3 dX1_apart_11 rfl rfl ?_
  obtain ⟨k7, hf⟩ := hf
  refine c759 hl h dX1_apart_12 k7 hf (Nat.le_of_ble_eq_true rfl) (by decide) (by decide) (fun x9 M8 hf => ?_)
  exact r_zreturn h hq dX1_apart_15 hf.1 ⟨_, rfl, hf.2⟩
theorem c1463 {l : Launch} {G : gG} {X : gX} {cc : ByteArray} {nL F L bc bs pc : Nat} {M : gM} {lv : List (Nat × Value)} {rest : List Value} {a0 : Nat} {a1 : Int32} {a2 : Int32} {a3 : Int32} {K : Int32 → gM → Prop} {KX : Addr → String → gM → Prop} (hl : l.stackTraces = false) (h : hX l G X cc nL "GlacierMailLaw" F L) (d : decode cc pc = .ok (.invokevirtual 90, 3)) (hk : kd M a0 = some (.inl 1)) (hf : f_X1_apart a0 a1 a2 a3 M K KX) (hst : (rest.map fun v => v.category).sum ≤ 8) (hF : 15 ≤ F) (hL : 264 ≤ L) (h1 : 2 ≤ bc) (h2 : 12 ≤ bs) (kk : ∀ x M1, K x M1 → V l G X (bc - 2) (bs - 12) M1 (pc + 3) lv (.int x :: rest)) (kx : ∀ q E M1, KX q E M1 → VX l G X (bc - 2) (bs - 12) M1 pc lv q E) : V l G X bc bs M pc lv (.int a3 :: .int a2 :: .int a1 :: .ref a0 :: rest) := r_callV (n := 3) (As := [.int a1, .int a2, .int a3]) h (m_X1_apart hl hf) 1 rfl hk rfl ⟨by decide, by decide, by decide +kernel⟩ d q1463 q1464 q1465 q135 q1466 rfl rfl hst hF hL h1 h2 (kI_go kk) kx
def f_X0_apart (a0 : Nat) (a1 : Int32) (a2 : Int32) (a3 : Int32) (a4 : Nat) (M : gM) (K : Int32 → gM → Prop) : Prop :=
  kd M a0 = some (.inl 1) ∧ f_X1_apart a0 a1 a2 a3 M (fun x3 M2 => if x3 = 0 then inA M2 a4 2 0 ∧ ∀ M6, M6 = sJ M2 a4 (ix 0) 0 → K 0 M6 else inA M2 a4 2 0 ∧ ∀ M8, M8 = sJ M2 a4 (ix 0) 1 → K 0 M8) (fun q9 E9 M9 => (E9 = "java/lang/IndexOutOfBoundsException" ∧ K 1 M9))
set_option maxHeartbeats 4000000 in
theorem m_X0_apart {l : Launch} (hl : l.stackTraces = false) {G : gG} {a0 : Nat} {a1 : Int32} {a2 : Int32} {a3 : Int32} {a4 : Nat} {M : gM} {K : Int32 → gM → Prop} (hf : f_X0_apart a0 a1 a2 a3 a4 M K) : gMet l G yX0_apart (wsW_ yX0_apart cX0_apart 6 (some Jvm.ClassFile.FieldType.int) [(0, 19, 22, 28)]) ({ frames := 15, cells := 2, slots := 12, locals := 264 }) M [.ref a0, .int a1, .int a2, .int a3, .ref a4] (kI K) kN := by
  refine gm_ofH hl (ret := (some Jvm.ClassFile.FieldType.int)) rfl (Nat.le_of_ble_eq_true rfl) (fun X h hq => ?_)
  have h : hX l G X cX0_apart 6 "GlacierMailLaw" 15 264 := h
  have hf := hf
  show V l G X 2 12 M 0 [(0, .ref a0), (1, .int a1), (2, .int a2), (3, .int a3), (4, .ref a4)] []
  unfold f_X0_apart at hf
  refine r_aload h 4 dX0_apart_0 rfl ?_
  refine r_iconst (v := 0) h dX0_apart_2 (by decide) ?_
  refine r_aload_n h 0 dX0_apart_3 rfl rfl ?_
  refine r_iload_n h 1 dX0_apart_4 rfl rfl ?_
  refine r_iload_n h 2 dX0_apart_5 rfl rfl ?_
  refine r_iload_n h 3 dX0_apart_6 rfl rfl ?_
  obtain ⟨k1, hf⟩ := hf
  refine c1463 hl h dX0_apart_7 k1 hf (Nat.le_of_ble_eq_true rfl) (by decide) (by decide) (by decide) (by decide) (fun x3 M2 hf => ?_) (fun q9 E9 M9 hf => ?_)
  · skip
    refine r_if_eq (tgt := 17) h dX0_apart_10 (by decide) (fun c4 => ?_) (fun c4 => ?_)
    · have hf := ite_t c4 hf
      refine r_lconst (v := 0) h dX0_apart_17 rfl ?_
      obtain ⟨j5, hf⟩ := hf
      refine r_lastore h dX0_apart_18 j5 ?_
      refine r_goW (fun M6 eM6 => ?_)
      have hf := hf M6 eM6
      refine r_goto (tgt := 26) h dX0_apart_19 (by decide) ?_
      refine r_iconst (v := 0) h dX0_apart_26 (by decide) ?_
      exact r_ireturn h hq dX0_apart_27 ⟨_, rfl, hf⟩
    · have hf := ite_f c4 hf
      refine r_lconst (v := 1) h dX0_apart_13 rfl ?_
      refine r_goto (tgt := 18) h dX0_apart_14 (by decide) ?_
      obtain ⟨j7, hf⟩ := hf
      refine r_lastore h dX0_apart_18 j7 ?_
      refine r_goW (fun M8 eM8 => ?_)
      have hf := hf M8 eM8
      refine r_goto (tgt := 26) h dX0_apart_19 (by decide) ?_
      refine r_iconst (v := 0) h dX0_apart_26 (by decide) ?_
      exact r_ireturn h hq dX0_apart_27 ⟨_, rfl, hf⟩
  · rcases hf with ⟨rfl, hf⟩
    · refine r_catch h hq 0 (E := "java/lang/IndexOutOfBoundsException") (nm := "java/lang/IndexOutOfBoundsException") rfl (fun z hz => nomatch hz) (by decide) (by decide) q1153 (List.mem_of_getElem? (i := 8) rfl) ?_
      refine r_astore (lv' := [(5, .ref q9), (0, .ref a0), (1, .int a1), (2, .int a2), (3, .int a3), (4, .ref a4)]) h dX0_apart_22 (by decide) rfl ?_
      refine r_iconst (v := 1) h dX0_apart_24 (by decide) ?_
      exact r_ireturn h hq dX0_apart_25 ⟨_, rfl, hf⟩
theorem c1460 {l : Launch} {G : gG} {X : gX} {cc : ByteArray} {nL F L bc bs pc : Nat} {M : gM} {lv : List (Nat × Value)} {rest : List Value} {a0 : Nat} {a1 : Int32} {a2 : Int32} {a3 : Int32} {a4 : Nat} {K : Int32 → gM → Prop} (hl : l.stackTraces = false) (h : hX l G X cc nL "GlacierMailLaw" F L) (d : decode cc pc = .ok (.invokestatic 238, 3)) (hf : f_X0_apart a0 a1 a2 a3 a4 M K) (hst : (rest.map fun v => v.category).sum ≤ 8) (hF : 16 ≤ F) (hL : 289 ≤ L) (h1 : 2 ≤ bc) (h2 : 12 ≤ bs) (kk : ∀ x M1, K x M1 → V l G X (bc - 2) (bs - 12) M1 (pc + 3) lv (.int x :: rest)) : V l G X bc bs M pc lv (.ref a4 :: .int a3 :: .int a2 :: .int a1 :: .ref a0 :: rest) := r_callSH (n := 5) (As := [.ref a0, .int a1, .int a2, .int a3, .ref a4]) h (m_X0_apart hl hf) ⟨by decide, by decide, by decide +kernel⟩ d q1460 q1461 q134 q1462 rfl rfl hst hF hL h1 h2 (kI_go kk) kN_go
def f_X1_fit (a0 : Nat) (M : gM) (K : Int32 → gM → Prop) (KX : Addr → String → gM → Prop) : Prop :=
  ∀ P32 : Nat → Int32 → Int32 → Int32 → Int32 → gM → Prop,
  ∀ P100 : Nat → Int32 → Int32 → Int32 → Int32 → Int32 → Int32 → gM → Prop,
  (∀ (v0 : Nat) (v1 : Int32) (v2 : Int32) (v3 : Int32) (v4 : Int32) (M : gM), (if v1 ≤ v4 then f_X1_must v2 M (fun M14 => K v3 M14) KX else if v2 = 0 then f_X1_must v2 M (fun M16 => K v3 M16) KX else kd M v0 = some (.inl 1) ∧ ∃ b18, rv M v0 0 = some b18 ∧ kd M b18 = some (.inl 2) ∧ ∃ b21, rv M b18 0 = some b21 ∧ inA M b21 1 v4 ∧ ∃ b24, rv M v0 1 = some b24 ∧ kd M b24 = some (.inl 3) ∧ if (iv M b24 9) ≤ ((iv M b21 (ix v4)) &&& 255) then P100 v0 v1 0 v3 v4 ((iv M b21 (ix v4)) &&& 255) 0 M else ∃ b28, rv M v0 0 = some b28 ∧ kd M b28 = some (.inl 2) ∧ ∃ b31, rv M b28 0 = some b31 ∧ inA M b31 1 (v4 + 1) ∧ if 20 < ((iv M b31 (ix (v4 + 1))) &&& 255) then P100 v0 v1 0 v3 v4 ((iv M b21 (ix v4)) &&& 255) 0 M else P100 v0 v1 1 v3 v4 ((iv M b21 (ix v4)) &&& 255) 0 M) → P32 v0 v1 v2 v3 v4 M) →
  (∀ (v0 : Nat) (v1 : Int32) (v2 : Int32) (v3 : Int32) (v4 : Int32) (v5 : Int32) (v6 : Int32) (M : gM), (kd M v0 = some (.inl 1) ∧ ∃ b36, rv M v0 1 = some b36 ∧ kd M b36 = some (.inl 3) ∧ if (iv M b36 15) ≤ v6 then P32 v0 v1 v2 v3 (v4 + 2) M else if v2 = 0 then P32 v0 v1 v2 v3 (v4 + 2) M else ∃ b41, rv M v0 1 = some b41 ∧ kd M b41 = some (.inl 3) ∧ ∃ b44, rv M b41 4 = some b44 ∧ inA M b44 5 v6 ∧ ∃ b47, rv M b44 (ix v6) = some b47 ∧ kd M b47 = some (.inl 4) ∧ ∃ b50, rv M b47 0 = some b50 ∧ inA M b50 0 v5 ∧ ∃ b53, rv M v0 0 = some b53 ∧ kd M b53 = some (.inl 2) ∧ ∃ b56, rv M b53 0 = some b56 ∧ inA M b56 1 (v4 + 1) ∧ if (iv M b50 (ix v5)) = ((iv M b56 (ix (v4 + 1))) &&& 255) then P100 v0 v1 v2 v3 v4 v5 (v6 + 1) M else P100 v0 v1 v2 (v3 &&& (((1 : Int32) <<< (v6 &&& 31)) ^^^ (-1))) v4 v5 (v6 + 1) M) → P100 v0 v1 v2 v3 v4 v5 v6 M) →
  kd M a0 = some (.inl 1) ∧ f_X1_took a0 M (fun x3 M2 => if (x3 - x3 / 2 * 2) = 0 then kd M2 a0 = some (.inl 1) ∧ ∃ b10, rv M2 a0 1 = some b10 ∧ kd M2 b10 = some (.inl 3) ∧ P32 a0 x3 1 (((1 : Int32) <<< ((iv M2 b10 15) &&& 31)) - 1) 0 M2 else kd M2 a0 = some (.inl 1) ∧ ∃ b6, rv M2 a0 1 = some b6 ∧ kd M2 b6 = some (.inl 3) ∧ P32 a0 x3 0 (((1 : Int32) <<< ((iv M2 b6 15) &&& 31)) - 1) 0 M2)
set_option maxHeartbeats 4000000 in
theorem m_X1_fit {l : Launch} (hl : l.stackTraces = false) {G : gG} {a0 : Nat} {M : gM} {K : Int32 → gM → Prop} {KX : Addr → String → gM → Prop} (hf : f_X1_fit a0 M K KX) : gMet l G yX1_fit (ws_ yX1_fit cX1_fit 7 (some Jvm.ClassFile.FieldType.int)) ({ frames := 13, cells := 1, slots := 6, locals := 220 }) M [.ref a0] (kI K) KX := by
  refine gm_of hl (ret := (some Jvm.ClassFile.FieldType.int)) rfl (Nat.le_of_ble_eq_true rfl) (fun X h hq => ?_)
  have h : hX l G X cX1_fit 7 "GlacierMail" 13 220 := h
  have hf := hf
  show V l G X 1 6 M 0 [(0, .ref a0)] []
  have hf := hf
    (fun v0 v1 v2 v3 v4 M => V l G X 1 6 M 32 [(0, .ref v0), (1, .int v1), (2, .int v2), (3, .int v3), (4, .int v4)] [])
    (fun v0 v1 v2 v3 v4 v5 v6 M => V l G X 1 6 M 100 [(0, .ref v0), (1, .int v1), (2, .int v2), (3, .int v3), (4, .int v4), (5, .int v5), (6, .int v6)] [])
    (by
      intro v0 v1 v2 v3 v4 M hf
      show V l G X 1 6 M 32 [(0, .ref v0), (1, .int v1), (2, .int v2), (3, .int v3), (4, .int v4)] []
      refine r_iload h 4 dX1_fit_32 rfl ?_
      refine r_iload_n h 1 dX1_fit_34 rfl rfl ?_
      refine r_icmp_ge (tgt := 172) h dX1_fit_35 (by decide) (fun c13 => ?_) (fun c13 => ?_)
      · have hf := ite_t c13 hf
        refine r_iload_n h 2 dX1_fit_172 rfl rfl ?_
        refine c1147 hl h dX1_fit_173 hf (Nat.le_of_ble_eq_true rfl) (by decide) (by decide) (by decide) (by decide) (fun M14 hf => ?_) (fun q9 E9 M9 hf => r_out h hq hf)
        refine r_iload_n h 3 dX1_fit_176 rfl rfl ?_
        exact r_ireturn h hq dX1_fit_177 ⟨_, rfl, hf⟩
      · have hf := ite_f c13 hf
        refine r_iload_n h 2 dX1_fit_38 rfl rfl ?_
        refine r_if_eq (tgt := 172) h dX1_fit_39 (by decide) (fun c15 => ?_) (fun c15 => ?_)
        · have hf := ite_t c15 hf
          refine r_iload_n h 2 dX1_fit_172 rfl rfl ?_
          refine c1147 hl h dX1_fit_173 hf (Nat.le_of_ble_eq_true rfl) (by decide) (by decide) (by decide) (by decide) (fun M16 hf => ?_) (fun q9 E9 M9 hf => r_out h hq hf)
          refine r_iload_n h 3 dX1_fit_176 rfl rfl ?_
          exact r_ireturn h hq dX1_fit_177 ⟨_, rfl, hf⟩
        · have hf := ite_f c15 hf
          refine r_aload_n h 0 dX1_fit_42 rfl rfl ?_
          obtain ⟨k17, hf⟩ := hf
          obtain ⟨b18, e19, hf⟩ := hf
          refine g572 h dX1_fit_43 k17 e19 ?_
          obtain ⟨k20, hf⟩ := hf
          obtain ⟨b21, e22, hf⟩ := hf
          refine g508 h dX1_fit_46 k20 e22 ?_
          refine r_iload h 4 dX1_fit_49 rfl ?_
          obtain ⟨j23, hf⟩ := hf
          refine r_baload h dX1_fit_51 j23 ?_
          refine r_sipush (v := 255) h dX1_fit_52 (by decide) ?_
          refine r_iand h dX1_fit_55 ?_
          refine r_istore (lv' := [(5, .int ((iv M b21 (ix v4)) &&& 255)), (0, .ref v0), (1, .int v1), (2, .int v2), (3, .int v3), (4, .int v4)]) h dX1_fit_56 (by decide) rfl ?_
          refine r_iload h 0 dX1_fit_58 rfl ?_
          refine r_aload_n h 1 dX1_fit_60 rfl rfl ?_
          obtain ⟨b24, e25, hf⟩ := hf
          refine g573 h dX1_fit_61 k17 e25 ?_
          obtain ⟨k26, hf⟩ := hf
          refine g342 h dX1_fit_64 k26 ?_
          refine r_icmp_ge (tgt := 95) h dX1_fit_67 (by decide) (fun c27 => ?_) (fun c27 => ?_)
          · have hf := ite_t c27 hf
            refine r_iconst (v := 0) h dX1_fit_95 (by decide) ?_
            refine r_istore_n (lv' := [(2, .int 0), (5, .int ((iv M b21 (ix v4)) &&& 255)), (0, .ref v0), (1, .int v1), (3, .int v3), (4, .int v4)]) h dX1_fit_96 rfl (by decide) rfl ?_
            refine r_iconst (v := 0) h dX1_fit_97 (by decide) ?_
            refine r_istore (lv' := [(6, .int 0), (2, .int 0), (5, .int ((iv M b21 (ix v4)) &&& 255)), (0, .ref v0), (1, .int v1), (3, .int v3), (4, .int v4)]) h dX1_fit_98 (by decide) rfl ?_
            exact V.sub [3, 4, 1, 5, 6, 2, 0] rfl hf
          · have hf := ite_f c27 hf
            refine r_aload_n h 1 dX1_fit_70 rfl rfl ?_
            obtain ⟨b28, e29, hf⟩ := hf
            refine g572 h dX1_fit_71 k17 e29 ?_
            obtain ⟨k30, hf⟩ := hf
            obtain ⟨b31, e32, hf⟩ := hf
            refine g508 h dX1_fit_74 k30 e32 ?_
            refine r_iload h 5 dX1_fit_77 rfl ?_
            refine r_iconst (v := 1) h dX1_fit_79 (by decide) ?_
            refine r_iadd h dX1_fit_80 ?_
            obtain ⟨j33, hf⟩ := hf
            refine r_baload h dX1_fit_81 j33 ?_
            refine r_sipush (v := 255) h dX1_fit_82 (by decide) ?_
            refine r_iand h dX1_fit_85 ?_
            refine r_bipush (v := 20) h dX1_fit_86 (by decide) ?_
            refine r_icmp_gt (tgt := 95) h dX1_fit_88 (by decide) (fun c34 => ?_) (fun c34 => ?_)
            · have hf := ite_t c34 hf
              refine r_iconst (v := 0) h dX1_fit_95 (by decide) ?_
              refine r_istore_n (lv' := [(2, .int 0), (5, .int ((iv M b21 (ix v4)) &&& 255)), (0, .ref v0), (1, .int v1), (3, .int v3), (4, .int v4)]) h dX1_fit_96 rfl (by decide) rfl ?_
              refine r_iconst (v := 0) h dX1_fit_97 (by decide) ?_
              refine r_istore (lv' := [(6, .int 0), (2, .int 0), (5, .int ((iv M b21 (ix v4)) &&& 255)), (0, .ref v0), (1, .int v1), (3, .int v3), (4, .int v4)]) h dX1_fit_98 (by decide) rfl ?_
              exact V.sub [3, 4, 1, 5, 6, 2, 0] rfl hf
            · have hf := ite_f c34 hf
              refine r_iconst (v := 1) h dX1_fit_91 (by decide) ?_
              refine r_goto (tgt := 96) h dX1_fit_92 (by decide) ?_
              refine r_istore_n (lv' := [(2, .int 1), (5, .int ((iv M b21 (ix v4)) &&& 255)), (0, .ref v0), (1, .int v1), (3, .int v3), (4, .int v4)]) h dX1_fit_96 rfl (by decide) rfl ?_
              refine r_iconst (v := 0) h dX1_fit_97 (by decide) ?_
              refine r_istore (lv' := [(6, .int 0), (2, .int 1), (5, .int ((iv M b21 (ix v4)) &&& 255)), (0, .ref v0), (1, .int v1), (3, .int v3), (4, .int v4)]) h dX1_fit_98 (by decide) rfl ?_
              exact V.sub [3, 4, 1, 5, 6, 2, 0] rfl hf)
    (by
      intro v0 v1 v2 v3 v4 v5 v6 M hf
      show V l G X 1 6 M 100 [(0, .ref v0), (1, .int v1), (2, .int v2), (3, .int v3), (4, .int v4), (5, .int v5), (6, .int v6)] []
      refine r_iload h 6 dX1_fit_100 rfl ?_
      refine r_aload_n h 0 dX1_fit_102 rfl rfl ?_
      obtain ⟨k35, hf⟩ := hf
      obtain ⟨b36, e37, hf⟩ := hf
      refine g573 h dX1_fit_103 k35 e37 ?_
      obtain ⟨k38, hf⟩ := hf
      refine g362 h dX1_fit_106 k38 ?_
      refine r_icmp_ge (tgt := 166) h dX1_fit_109 (by decide) (fun c39 => ?_) (fun c39 => ?_)
      · have hf := ite_t c39 hf
        refine r_iinc (v := v4 + 2) (lv' := [(4, .int (v4 + 2)), (0, .ref v0), (1, .int v1), (2, .int v2), (3, .int v3), (5, .int v5), (6, .int v6)]) h 4 dX1_fit_166 rfl rfl (by decide) rfl ?_
        refine r_goto (tgt := 32) h dX1_fit_169 (by decide) ?_
        exact V.sub [1, 2, 3, 4, 0] rfl hf
      · have hf := ite_f c39 hf
        refine r_iload_n h 2 dX1_fit_112 rfl rfl ?_
        refine r_if_eq (tgt := 166) h dX1_fit_113 (by decide) (fun c40 => ?_) (fun c40 => ?_)
        · have hf := ite_t c40 hf
          refine r_iinc (v := v4 + 2) (lv' := [(4, .int (v4 + 2)), (0, .ref v0), (1, .int v1), (2, .int v2), (3, .int v3), (5, .int v5), (6, .int v6)]) h 4 dX1_fit_166 rfl rfl (by decide) rfl ?_
          refine r_goto (tgt := 32) h dX1_fit_169 (by decide) ?_
          exact V.sub [1, 2, 3, 4, 0] rfl hf
        · have hf := ite_f c40 hf
          refine r_aload_n h 0 dX1_fit_116 rfl rfl ?_
          obtain ⟨b41, e42, hf⟩ := hf
          refine g573 h dX1_fit_117 k35 e42 ?_
          obtain ⟨k43, hf⟩ := hf
          obtain ⟨b44, e45, hf⟩ := hf
          refine g333 h dX1_fit_120 k43 e45 ?_
          refine r_iload h 6 dX1_fit_123 rfl ?_
          obtain ⟨j46, b47, e48, hf⟩ := hf
          refine r_aaload h 5 (by decide) (by decide) dX1_fit_125 j46 (v := .ref b47) (by rw [e48]; rfl) ?_
          obtain ⟨k49, hf⟩ := hf
          obtain ⟨b50, e51, hf⟩ := hf
          refine g220 h dX1_fit_126 k49 e51 ?_
          refine r_iload h 5 dX1_fit_129 rfl ?_
          obtain ⟨j52, hf⟩ := hf
          refine r_iaload h dX1_fit_131 j52 ?_
          refine r_aload_n h 0 dX1_fit_132 rfl rfl ?_
          obtain ⟨b53, e54, hf⟩ := hf
          refine g572 h dX1_fit_133 k35 e54 ?_
          obtain ⟨k55, hf⟩ := hf
          obtain ⟨b56, e57, hf⟩ := hf
          refine g508 h dX1_fit_136 k55 e57 ?_
          refine r_iload h 4 dX1_fit_139 rfl ?_
          refine r_iconst (v := 1) h dX1_fit_141 (by decide) ?_
          refine r_iadd h dX1_fit_142 ?_
          obtain ⟨j58, hf⟩ := hf
          refine r_baload h dX1_fit_143 j58 ?_
          refine r_sipush (v := 255) h dX1_fit_144 (by decide) ?_
          refine r_iand h dX1_fit_147 ?_
          refine r_icmp_eq (tgt := 160) h dX1_fit_148 (by decide) (fun c59 => ?_) (fun c59 => ?_)
          · have hf := ite_t c59 hf
            refine r_iinc (v := v6 + 1) (lv' := [(6, .int (v6 + 1)), (0, .ref v0), (1, .int v1), (2, .int v2), (3, .int v3), (4, .int v4), (5, .int v5)]) h 6 dX1_fit_160 rfl rfl (by decide) rfl ?_
            refine r_goto (tgt := 100) h dX1_fit_163 (by decide) ?_
            exact V.sub [1, 2, 3, 4, 5, 6, 0] rfl hf
          · have hf := ite_f c59 hf
            refine r_iload_n h 3 dX1_fit_151 rfl rfl ?_
            refine r_iconst (v := 1) h dX1_fit_152 (by decide) ?_
            refine r_iload h 6 dX1_fit_153 rfl ?_
            refine r_ishl h dX1_fit_155 ?_
            refine r_iconst (v := (-1)) h dX1_fit_156 (by decide) ?_
            refine r_ixor h dX1_fit_157 ?_
            refine r_iand h dX1_fit_158 ?_
            refine r_istore_n (lv' := [(3, .int (v3 &&& (((1 : Int32) <<< (v6 &&& 31)) ^^^ (-1)))), (0, .ref v0), (1, .int v1), (2, .int v2), (4, .int v4), (5, .int v5), (6, .int v6)]) h dX1_fit_159 rfl (by decide) rfl ?_
            refine r_iinc (v := v6 + 1) (lv' := [(6, .int (v6 + 1)), (3, .int (v3 &&& (((1 : Int32) <<< (v6 &&& 31)) ^^^ (-1)))), (0, .ref v0), (1, .int v1), (2, .int v2), (4, .int v4), (5, .int v5)]) h 6 dX1_fit_160 rfl rfl (by decide) rfl ?_
            refine r_goto (tgt := 100) h dX1_fit_163 (by decide) ?_
            exact V.sub [2, 3, 4, 1, 5, 6, 0] rfl hf)
  refine r_aload_n h 0 dX1_fit_0 rfl rfl ?_
  obtain ⟨k1, hf⟩ := hf
  refine c829 hl h dX1_fit_1 k1 hf (Nat.le_of_ble_eq_true rfl) (by decide) (by decide) (fun x3 M2 hf => ?_)
  refine r_istore_n (lv' := [(1, .int x3), (0, .ref a0)]) h dX1_fit_4 rfl (by decide) rfl ?_
  refine r_iload_n h 0 dX1_fit_5 rfl rfl ?_
  refine r_iconst (v := 2) h dX1_fit_6 (by decide) ?_
  refine r_irem h dX1_fit_7 (by decide) ?_
  refine r_if_ne (tgt := 15) h dX1_fit_8 (by decide) (fun c4 => ?_) (fun c4 => ?_)
  · have hf := ite_f c4 hf
    refine r_iconst (v := 0) h dX1_fit_15 (by decide) ?_
    refine r_istore_n (lv' := [(2, .int 0), (1, .int x3), (0, .ref a0)]) h dX1_fit_16 rfl (by decide) rfl ?_
    refine r_iconst (v := 1) h dX1_fit_17 (by decide) ?_
    refine r_aload_n h 2 dX1_fit_18 rfl rfl ?_
    obtain ⟨k5, hf⟩ := hf
    obtain ⟨b6, e7, hf⟩ := hf
    refine g573 h dX1_fit_19 k5 e7 ?_
    obtain ⟨k8, hf⟩ := hf
    refine g362 h dX1_fit_22 k8 ?_
    refine r_ishl h dX1_fit_25 ?_
    refine r_iconst (v := 1) h dX1_fit_26 (by decide) ?_
    refine r_isub h dX1_fit_27 ?_
    refine r_istore_n (lv' := [(3, .int (((1 : Int32) <<< ((iv M2 b6 15) &&& 31)) - 1)), (2, .int 0), (1, .int x3), (0, .ref a0)]) h dX1_fit_28 rfl (by decide) rfl ?_
    refine r_iconst (v := 0) h dX1_fit_29 (by decide) ?_
    refine r_istore (lv' := [(4, .int 0), (3, .int (((1 : Int32) <<< ((iv M2 b6 15) &&& 31)) - 1)), (2, .int 0), (1, .int x3), (0, .ref a0)]) h dX1_fit_30 (by decide) rfl ?_
    exact V.sub [4, 3, 2, 1, 0] rfl hf
  · have hf := ite_t c4 hf
    refine r_iconst (v := 1) h dX1_fit_11 (by decide) ?_
    refine r_goto (tgt := 16) h dX1_fit_12 (by decide) ?_
    refine r_istore_n (lv' := [(2, .int 1), (1, .int x3), (0, .ref a0)]) h dX1_fit_16 rfl (by decide) rfl ?_
    refine r_iconst (v := 1) h dX1_fit_17 (by decide) ?_
    refine r_aload_n h 2 dX1_fit_18 rfl rfl ?_
    obtain ⟨k9, hf⟩ := hf
    obtain ⟨b10, e11, hf⟩ := hf
    refine g573 h dX1_fit_19 k9 e11 ?_
    obtain ⟨k12, hf⟩ := hf
    refine g362 h dX1_fit_22 k12 ?_
    refine r_ishl h dX1_fit_25 ?_
    refine r_iconst (v := 1) h dX1_fit_26 (by decide) ?_
    refine r_isub h dX1_fit_27 ?_
    refine r_istore_n (lv' := [(3, .int (((1 : Int32) <<< ((iv M2 b10 15) &&& 31)) - 1)), (2, .int 1), (1, .int x3), (0, .ref a0)]) h dX1_fit_28 rfl (by decide) rfl ?_
    refine r_iconst (v := 0) h dX1_fit_29 (by decide) ?_
    refine r_istore (lv' := [(4, .int 0), (3, .int (((1 : Int32) <<< ((iv M2 b10 15) &&& 31)) - 1)), (2, .int 1), (1, .int x3), (0, .ref a0)]) h dX1_fit_30 (by decide) rfl ?_
    exact V.sub [4, 3, 2, 1, 0] rfl hf
theorem c1470 {l : Launch} {G : gG} {X : gX} {cc : ByteArray} {nL F L bc bs pc : Nat} {M : gM} {lv : List (Nat × Value)} {rest : List Value} {a0 : Nat} {K : Int32 → gM → Prop} {KX : Addr → String → gM → Prop} (hl : l.stackTraces = false) (h : hX l G X cc nL "GlacierMailLaw" F L) (d : decode cc pc = .ok (.invokevirtual 94, 3)) (hk : kd M a0 = some (.inl 1)) (hf : f_X1_fit a0 M K KX) (hst : (rest.map fun v => v.category).sum ≤ 8) (hF : 14 ≤ F) (hL : 246 ≤ L) (h1 : 1 ≤ bc) (h2 : 6 ≤ bs) (kk : ∀ x M1, K x M1 → V l G X (bc - 1) (bs - 6) M1 (pc + 3) lv (.int x :: rest)) (kx : ∀ q E M1, KX q E M1 → VX l G X (bc - 1) (bs - 6) M1 pc lv q E) : V l G X bc bs M pc lv (.ref a0 :: rest) := r_callV (n := 0) (As := []) h (m_X1_fit hl hf) 1 rfl hk rfl ⟨by decide, by decide, by decide +kernel⟩ d q1470 q1471 q1472 q135 q1473 rfl rfl hst hF hL h1 h2 (kI_go kk) kx
def f_X0_fit (a0 : Nat) (a1 : Nat) (M : gM) (K : Int32 → gM → Prop) : Prop :=
  kd M a0 = some (.inl 1) ∧ f_X1_fit a0 M (fun x3 M2 => inA M2 a1 2 0 ∧ ∀ M5, M5 = sJ M2 a1 (ix 0) (x3.toInt64) → K 0 M5) (fun q9 E9 M9 => (E9 = "java/lang/IllegalArgumentException" ∧ K 1 M9))
set_option maxHeartbeats 4000000 in
theorem m_X0_fit {l : Launch} (hl : l.stackTraces = false) {G : gG} {a0 : Nat} {a1 : Nat} {M : gM} {K : Int32 → gM → Prop} (hf : f_X0_fit a0 a1 M K) : gMet l G yX0_fit (wsW_ yX0_fit cX0_fit 3 (some Jvm.ClassFile.FieldType.int) [(0, 8, 11, 13)]) ({ frames := 14, cells := 1, slots := 6, locals := 246 }) M [.ref a0, .ref a1] (kI K) kN := by
  refine gm_ofH hl (ret := (some Jvm.ClassFile.FieldType.int)) rfl (Nat.le_of_ble_eq_true rfl) (fun X h hq => ?_)
  have h : hX l G X cX0_fit 3 "GlacierMailLaw" 14 246 := h
  have hf := hf
  show V l G X 1 6 M 0 [(0, .ref a0), (1, .ref a1)] []
  unfold f_X0_fit at hf
  refine r_aload_n h 1 dX0_fit_0 rfl rfl ?_
  refine r_iconst (v := 0) h dX0_fit_1 (by decide) ?_
  refine r_aload_n h 0 dX0_fit_2 rfl rfl ?_
  obtain ⟨k1, hf⟩ := hf
  refine c1470 hl h dX0_fit_3 k1 hf (Nat.le_of_ble_eq_true rfl) (by decide) (by decide) (by decide) (by decide) (fun x3 M2 hf => ?_) (fun q9 E9 M9 hf => ?_)
  · skip
    refine r_i2l h dX0_fit_6 ?_
    obtain ⟨j4, hf⟩ := hf
    refine r_lastore h dX0_fit_7 j4 ?_
    refine r_goW (fun M5 eM5 => ?_)
    have hf := hf M5 eM5
    refine r_goto (tgt := 14) h dX0_fit_8 (by decide) ?_
    refine r_iconst (v := 0) h dX0_fit_14 (by decide) ?_
    exact r_ireturn h hq dX0_fit_15 ⟨_, rfl, hf⟩
  · rcases hf with ⟨rfl, hf⟩
    · refine r_catch h hq 0 (E := "java/lang/IllegalArgumentException") (nm := "java/lang/IllegalArgumentException") rfl (fun z hz => nomatch hz) (by decide) (by decide) q822 (List.mem_of_getElem? (i := 5) rfl) ?_
      refine r_astore_n (lv' := [(2, .ref q9), (0, .ref a0), (1, .ref a1)]) h dX0_fit_11 rfl (by decide) rfl ?_
      refine r_iconst (v := 1) h dX0_fit_12 (by decide) ?_
      exact r_ireturn h hq dX0_fit_13 ⟨_, rfl, hf⟩
theorem c1467 {l : Launch} {G : gG} {X : gX} {cc : ByteArray} {nL F L bc bs pc : Nat} {M : gM} {lv : List (Nat × Value)} {rest : List Value} {a0 : Nat} {a1 : Nat} {K : Int32 → gM → Prop} (hl : l.stackTraces = false) (h : hX l G X cc nL "GlacierMailLaw" F L) (d : decode cc pc = .ok (.invokestatic 245, 3)) (hf : f_X0_fit a0 a1 M K) (hst : (rest.map fun v => v.category).sum ≤ 8) (hF : 15 ≤ F) (hL : 268 ≤ L) (h1 : 1 ≤ bc) (h2 : 6 ≤ bs) (kk : ∀ x M1, K x M1 → V l G X (bc - 1) (bs - 6) M1 (pc + 3) lv (.int x :: rest)) : V l G X bc bs M pc lv (.ref a1 :: .ref a0 :: rest) := r_callSH (n := 2) (As := [.ref a0, .ref a1]) h (m_X0_fit hl hf) ⟨by decide, by decide, by decide +kernel⟩ d q1467 q1468 q134 q1469 rfl rfl hst hF hL h1 h2 (kI_go kk) kN_go
def f_X1_lays (a0 : Nat) (M : gM) (K : gM → Prop) : Prop :=
  ∀ P2 : Nat → Int32 → gM → Prop,
  ∀ P21 : Nat → Int32 → Int32 → gM → Prop,
  (∀ (v0 : Nat) (v1 : Int32) (M : gM), (kd M v0 = some (.inl 1) ∧ ∃ b2, rv M v0 1 = some b2 ∧ kd M b2 = some (.inl 3) ∧ if (iv M b2 13) ≤ v1 then K M else ∃ b6, rv M v0 1 = some b6 ∧ kd M b6 = some (.inl 3) ∧ P21 v0 v1 (iv M b6 22) M) → P2 v0 v1 M) →
  (∀ (v0 : Nat) (v1 : Int32) (v2 : Int32) (M : gM), (if 300 ≤ v2 then P2 v0 (v1 + 1) M else kd M v0 = some (.inl 1) ∧ ∃ b11, rv M v0 7 = some b11 ∧ ∃ b13, rv M v0 4 = some b13 ∧ ∃ b15, rv M v0 1 = some b15 ∧ kd M b15 = some (.inl 3) ∧ ∃ b18, rv M b15 2 = some b18 ∧ inA M b18 7 v1 ∧ ∃ b21, rv M b18 (ix v1) = some b21 ∧ kd M b21 = some (.inl 6) ∧ ∃ b24, rv M v0 1 = some b24 ∧ kd M b24 = some (.inl 3) ∧ ∃ b27, rv M b24 2 = some b27 ∧ inA M b27 7 v1 ∧ ∃ b30, rv M b27 (ix v1) = some b30 ∧ kd M b30 = some (.inl 6) ∧ kd M b13 = some (.inl 9) ∧ f_X9_goes b13 (iv M b21 0) (iv M b30 1) v2 0 M (fun b35 M34 => kd M34 b35 = some (.inl 9) ∧ inA M34 b11 0 (((300 : Int32) * v1) + v2) ∧ ∀ M38, M38 = sI M34 b11 (ix (((300 : Int32) * v1) + v2)) (iv M34 b35 3) → P21 v0 v1 (v2 + 1) M38)) → P21 v0 v1 v2 M) →
  P2 a0 0 M
set_option maxHeartbeats 4000000 in
theorem m_X1_lays {l : Launch} (hl : l.stackTraces = false) {G : gG} {a0 : Nat} {M : gM} {K : gM → Prop} (hf : f_X1_lays a0 M K) : gMet l G yX1_lays (ws_ yX1_lays cX1_lays 3 none) ({ frames := 28, cells := 0, slots := 0, locals := 626 }) M [.ref a0] (kV K) kN := by
  refine gm_of hl (ret := none) rfl (Nat.le_of_ble_eq_true rfl) (fun X h hq => ?_)
  have h : hX l G X cX1_lays 3 "GlacierMail" 28 626 := h
  have hf := hf
  show V l G X 0 0 M 0 [(0, .ref a0)] []
  have hf := hf
    (fun v0 v1 M => V l G X 0 0 M 2 [(0, .ref v0), (1, .int v1)] [])
    (fun v0 v1 v2 M => V l G X 0 0 M 21 [(0, .ref v0), (1, .int v1), (2, .int v2)] [])
    (by
      intro v0 v1 M hf
      show V l G X 0 0 M 2 [(0, .ref v0), (1, .int v1)] []
      refine r_iload_n h 1 dX1_lays_2 rfl rfl ?_
      refine r_aload_n h 0 dX1_lays_3 rfl rfl ?_
      obtain ⟨k1, hf⟩ := hf
      obtain ⟨b2, e3, hf⟩ := hf
      refine g573 h dX1_lays_4 k1 e3 ?_
      obtain ⟨k4, hf⟩ := hf
      refine g355 h dX1_lays_7 k4 ?_
      refine r_icmp_ge (tgt := 88) h dX1_lays_10 (by decide) (fun c5 => ?_) (fun c5 => ?_)
      · have hf := ite_t c5 hf
        exact r_return h hq dX1_lays_88 ⟨rfl, hf⟩
      · have hf := ite_f c5 hf
        refine r_aload_n h 0 dX1_lays_13 rfl rfl ?_
        obtain ⟨b6, e7, hf⟩ := hf
        refine g573 h dX1_lays_14 k1 e7 ?_
        obtain ⟨k8, hf⟩ := hf
        refine g381 h dX1_lays_17 k8 ?_
        refine r_istore_n (lv' := [(2, .int (iv M b6 22)), (0, .ref v0), (1, .int v1)]) h dX1_lays_20 rfl (by decide) rfl ?_
        exact V.sub [1, 2, 0] rfl hf)
    (by
      intro v0 v1 v2 M hf
      show V l G X 0 0 M 21 [(0, .ref v0), (1, .int v1), (2, .int v2)] []
      refine r_iload_n h 2 dX1_lays_21 rfl rfl ?_
      refine r_sipush (v := 300) h dX1_lays_22 (by decide) ?_
      refine r_icmp_ge (tgt := 82) h dX1_lays_25 (by decide) (fun c9 => ?_) (fun c9 => ?_)
      · have hf := ite_t c9 hf
        refine r_iinc (v := v1 + 1) (lv' := [(1, .int (v1 + 1)), (0, .ref v0), (2, .int v2)]) h 1 dX1_lays_82 rfl rfl (by decide) rfl ?_
        refine r_goto (tgt := 2) h dX1_lays_85 (by decide) ?_
        exact V.sub [1, 0] rfl hf
      · have hf := ite_f c9 hf
        refine r_aload_n h 0 dX1_lays_28 rfl rfl ?_
        obtain ⟨k10, hf⟩ := hf
        obtain ⟨b11, e12, hf⟩ := hf
        refine g580 h dX1_lays_29 k10 e12 ?_
        refine r_sipush (v := 300) h dX1_lays_32 (by decide) ?_
        refine r_iload_n h 1 dX1_lays_35 rfl rfl ?_
        refine r_imul h dX1_lays_36 ?_
        refine r_iload_n h 2 dX1_lays_37 rfl rfl ?_
        refine r_iadd h dX1_lays_38 ?_
        refine r_aload_n h 0 dX1_lays_39 rfl rfl ?_
        obtain ⟨b13, e14, hf⟩ := hf
        refine g577 h dX1_lays_40 k10 e14 ?_
        refine r_aload_n h 0 dX1_lays_43 rfl rfl ?_
        obtain ⟨b15, e16, hf⟩ := hf
        refine g573 h dX1_lays_44 k10 e16 ?_
        obtain ⟨k17, hf⟩ := hf
        obtain ⟨b18, e19, hf⟩ := hf
        refine g326 h dX1_lays_47 k17 e19 ?_
        refine r_iload_n h 1 dX1_lays_50 rfl rfl ?_
        obtain ⟨j20, b21, e22, hf⟩ := hf
        refine r_aaload h 7 (by decide) (by decide) dX1_lays_51 j20 (v := .ref b21) (by rw [e22]; rfl) ?_
        obtain ⟨k23, hf⟩ := hf
        refine g260 h dX1_lays_52 k23 ?_
        refine r_aload_n h 0 dX1_lays_55 rfl rfl ?_
        obtain ⟨b24, e25, hf⟩ := hf
        refine g573 h dX1_lays_56 k10 e25 ?_
        obtain ⟨k26, hf⟩ := hf
        obtain ⟨b27, e28, hf⟩ := hf
        refine g326 h dX1_lays_59 k26 e28 ?_
        refine r_iload_n h 1 dX1_lays_62 rfl rfl ?_
        obtain ⟨j29, b30, e31, hf⟩ := hf
        refine r_aaload h 7 (by decide) (by decide) dX1_lays_63 j29 (v := .ref b30) (by rw [e31]; rfl) ?_
        obtain ⟨k32, hf⟩ := hf
        refine g263 h dX1_lays_64 k32 ?_
        refine r_iload_n h 2 dX1_lays_67 rfl rfl ?_
        refine r_iconst (v := 0) h dX1_lays_68 (by decide) ?_
        obtain ⟨k33, hf⟩ := hf
        refine c1380 hl h dX1_lays_69 k33 hf (Nat.le_of_ble_eq_true rfl) (by decide) (by decide) (fun b35 M34 hf => ?_)
        obtain ⟨k36, hf⟩ := hf
        refine g559 h dX1_lays_72 k36 ?_
        obtain ⟨j37, hf⟩ := hf
        refine r_iastore h dX1_lays_75 j37 ?_
        refine r_goW (fun M38 eM38 => ?_)
        have hf := hf M38 eM38
        refine r_iinc (v := v2 + 1) (lv' := [(2, .int (v2 + 1)), (0, .ref v0), (1, .int v1)]) h 2 dX1_lays_76 rfl rfl (by decide) rfl ?_
        refine r_goto (tgt := 21) h dX1_lays_79 (by decide) ?_
        exact V.sub [1, 2, 0] rfl hf)
  refine r_iconst (v := 0) h dX1_lays_0 (by decide) ?_
  refine r_istore_n (lv' := [(1, .int 0), (0, .ref a0)]) h dX1_lays_1 rfl (by decide) rfl ?_
  exact V.sub [1, 0] rfl hf
theorem c1481 {l : Launch} {G : gG} {X : gX} {cc : ByteArray} {nL F L bc bs pc : Nat} {M : gM} {lv : List (Nat × Value)} {rest : List Value} {a0 : Nat} {K : gM → Prop} (hl : l.stackTraces = false) (h : hX l G X cc nL "GlacierMail" F L) (d : decode cc pc = .ok (.invokevirtual 379, 3)) (hk : kd M a0 = some (.inl 1)) (hf : f_X1_lays a0 M K) (hst : (rest.map fun v => v.category).sum ≤ 8) (hF : 29 ≤ F) (hL : 648 ≤ L) (kk : ∀ M1, K M1 → V l G X bc bs M1 (pc + 3) lv rest) : V l G X bc bs M pc lv (.ref a0 :: rest) := r_callV (n := 0) (As := []) h (m_X1_lays hl hf) 1 rfl hk rfl ⟨by decide, by decide, by decide +kernel⟩ d q1481 q1483 qs45 q135 q1484 rfl rfl hst hF hL (Nat.zero_le _) (Nat.zero_le _) (kV_go kk) kN_go
def f_X1_has (a0 : Nat) (a1 : Int32) (a2 : Int32) (a3 : Int32) (M : gM) (K : gM → Prop) : Prop :=
  ∀ P17 : Nat → Int32 → Int32 → Int32 → Int32 → gM → Prop,
  (∀ (v0 : Nat) (v1 : Int32) (v3 : Int32) (v4 : Int32) (v5 : Int32) (M : gM), (kd M v0 = some (.inl 1) ∧ ∃ b6, rv M v0 1 = some b6 ∧ kd M b6 = some (.inl 3) ∧ if (iv M b6 13) ≤ v5 then K M else if v4 = 2147483647 then K M else ∃ b11, rv M v0 1 = some b11 ∧ kd M b11 = some (.inl 3) ∧ ∃ b14, rv M b11 2 = some b14 ∧ inA M b14 7 v5 ∧ ∃ b17, rv M b14 (ix v5) = some b17 ∧ kd M b17 = some (.inl 6) ∧ ∃ b20, rv M v0 1 = some b20 ∧ kd M b20 = some (.inl 3) ∧ ∃ b23, rv M b20 2 = some b23 ∧ inA M b23 7 v1 ∧ ∃ b26, rv M b23 (ix v1) = some b26 ∧ kd M b26 = some (.inl 6) ∧ if (iv M b17 2) = (iv M b26 0) then ∃ b30, rv M v0 8 = some b30 ∧ ∃ b32, rv M v0 8 = some b32 ∧ inA M b32 0 (((300 : Int32) * v5) + v4) ∧ if (iv M b32 (ix (((300 : Int32) * v5) + v4))) = 0 then inA M b30 0 (((300 : Int32) * v5) + v4) ∧ ∀ M43, M43 = sI M b30 (ix (((300 : Int32) * v5) + v4)) v3 → P17 v0 v1 v3 v4 (v5 + 1) M43 else ∃ b36, rv M v0 8 = some b36 ∧ inA M b36 0 (((300 : Int32) * v5) + v4) ∧ ∀ x39, x39 = (if v3 < (iv M b36 (ix (((300 : Int32) * v5) + v4))) then v3 else (iv M b36 (ix (((300 : Int32) * v5) + v4)))) → inA M b30 0 (((300 : Int32) * v5) + v4) ∧ ∀ M41, M41 = sI M b30 (ix (((300 : Int32) * v5) + v4)) x39 → P17 v0 v1 v3 v4 (v5 + 1) M41 else P17 v0 v1 v3 v4 (v5 + 1) M) → P17 v0 v1 v3 v4 v5 M) →
  kd M a0 = some (.inl 1) ∧ ∃ b2, rv M a0 7 = some b2 ∧ inA M b2 0 (((300 : Int32) * a1) + a2) ∧ P17 a0 a1 a3 (iv M b2 (ix (((300 : Int32) * a1) + a2))) 0 M
set_option maxHeartbeats 4000000 in
theorem m_X1_has {l : Launch} (hl : l.stackTraces = false) {G : gG} {a0 : Nat} {a1 : Int32} {a2 : Int32} {a3 : Int32} {M : gM} {K : gM → Prop} (hf : f_X1_has a0 a1 a2 a3 M K) : gMet l G yX1_has (ws_ yX1_has cX1_has 7 none) ({ frames := 1, cells := 0, slots := 0, locals := 21 }) M [.ref a0, .int a1, .int a2, .int a3] (kV K) kN := by
  refine gm_of hl (ret := none) rfl (Nat.le_of_ble_eq_true rfl) (fun X h hq => ?_)
  have h : hX l G X cX1_has 7 "GlacierMail" 1 21 := h
  have hf := hf
  show V l G X 0 0 M 0 [(0, .ref a0), (1, .int a1), (2, .int a2), (3, .int a3)] []
  have hf := hf
    (fun v0 v1 v3 v4 v5 M => V l G X 0 0 M 17 [(0, .ref v0), (1, .int v1), (3, .int v3), (4, .int v4), (5, .int v5)] [])
    (by
      intro v0 v1 v3 v4 v5 M hf
      show V l G X 0 0 M 17 [(0, .ref v0), (1, .int v1), (3, .int v3), (4, .int v4), (5, .int v5)] []
      refine r_iload h 4 dX1_has_17 rfl ?_
      refine r_aload_n h 0 dX1_has_19 rfl rfl ?_
      obtain ⟨k5, hf⟩ := hf
      obtain ⟨b6, e7, hf⟩ := hf
      refine g573 h dX1_has_20 k5 e7 ?_
      obtain ⟨k8, hf⟩ := hf
      refine g355 h dX1_has_23 k8 ?_
      refine r_icmp_ge (tgt := 116) h dX1_has_26 (by decide) (fun c9 => ?_) (fun c9 => ?_)
      · have hf := ite_t c9 hf
        exact r_return h hq dX1_has_116 ⟨rfl, hf⟩
      · have hf := ite_f c9 hf
        refine r_iload h 3 dX1_has_29 rfl ?_
        refine r_ldc (v := 2147483647) h dX1_has_31 q743 ?_
        refine r_icmp_eq (tgt := 116) h dX1_has_33 (by decide) (fun c10 => ?_) (fun c10 => ?_)
        · have hf := ite_t c10 hf
          exact r_return h hq dX1_has_116 ⟨rfl, hf⟩
        · have hf := ite_f c10 hf
          refine r_aload_n h 0 dX1_has_36 rfl rfl ?_
          obtain ⟨b11, e12, hf⟩ := hf
          refine g573 h dX1_has_37 k5 e12 ?_
          obtain ⟨k13, hf⟩ := hf
          obtain ⟨b14, e15, hf⟩ := hf
          refine g326 h dX1_has_40 k13 e15 ?_
          refine r_iload h 4 dX1_has_43 rfl ?_
          obtain ⟨j16, b17, e18, hf⟩ := hf
          refine r_aaload h 7 (by decide) (by decide) dX1_has_45 j16 (v := .ref b17) (by rw [e18]; rfl) ?_
          obtain ⟨k19, hf⟩ := hf
          refine g266 h dX1_has_46 k19 ?_
          refine r_aload_n h 0 dX1_has_49 rfl rfl ?_
          obtain ⟨b20, e21, hf⟩ := hf
          refine g573 h dX1_has_50 k5 e21 ?_
          obtain ⟨k22, hf⟩ := hf
          obtain ⟨b23, e24, hf⟩ := hf
          refine g326 h dX1_has_53 k22 e24 ?_
          refine r_iload_n h 1 dX1_has_56 rfl rfl ?_
          obtain ⟨j25, b26, e27, hf⟩ := hf
          refine r_aaload h 7 (by decide) (by decide) dX1_has_57 j25 (v := .ref b26) (by rw [e27]; rfl) ?_
          obtain ⟨k28, hf⟩ := hf
          refine g260 h dX1_has_58 k28 ?_
          refine r_icmp_eq (tgt := 67) h dX1_has_61 (by decide) (fun c29 => ?_) (fun c29 => ?_)
          · have hf := ite_t c29 hf
            refine r_sipush (v := 300) h dX1_has_67 (by decide) ?_
            refine r_iload h 4 dX1_has_70 rfl ?_
            refine r_imul h dX1_has_72 ?_
            refine r_iload h 3 dX1_has_73 rfl ?_
            refine r_iadd h dX1_has_75 ?_
            refine r_istore (lv' := [(6, .int (((300 : Int32) * v5) + v4)), (0, .ref v0), (1, .int v1), (3, .int v3), (4, .int v4), (5, .int v5)]) h dX1_has_76 (by decide) rfl ?_
            refine r_aload_n h 1 dX1_has_78 rfl rfl ?_
            obtain ⟨b30, e31, hf⟩ := hf
            refine g581 h dX1_has_79 k5 e31 ?_
            refine r_iload h 0 dX1_has_82 rfl ?_
            refine r_aload_n h 1 dX1_has_84 rfl rfl ?_
            obtain ⟨b32, e33, hf⟩ := hf
            refine g581 h dX1_has_85 k5 e33 ?_
            refine r_iload h 0 dX1_has_88 rfl ?_
            obtain ⟨j34, hf⟩ := hf
            refine r_iaload h dX1_has_90 j34 ?_
            refine r_if_ne (tgt := 98) h dX1_has_91 (by decide) (fun c35 => ?_) (fun c35 => ?_)
            · have hf := ite_f c35 hf
              refine r_aload_n h 1 dX1_has_98 rfl rfl ?_
              obtain ⟨b36, e37, hf⟩ := hf
              refine g581 h dX1_has_99 k5 e37 ?_
              refine r_iload h 0 dX1_has_102 rfl ?_
              obtain ⟨j38, hf⟩ := hf
              refine r_iaload h dX1_has_104 j38 ?_
              refine r_iload_n h 3 dX1_has_105 rfl rfl ?_
              refine r_mmin h q1307 q729 q165 q730 dX1_has_106 (by decide) (by decide) (Nat.le_of_ble_eq_true rfl) ?_
              refine r_nam (fun x39 ex39 => ?_)
              have hf := hf x39 ex39
              obtain ⟨j40, hf⟩ := hf
              refine r_iastore h dX1_has_109 j40 ?_
              refine r_goW (fun M41 eM41 => ?_)
              have hf := hf M41 eM41
              refine r_iinc (v := v5 + 1) (lv' := [(5, .int (v5 + 1)), (6, .int (((300 : Int32) * v5) + v4)), (0, .ref v0), (1, .int v1), (3, .int v3), (4, .int v4)]) h 5 dX1_has_110 rfl rfl (by decide) rfl ?_
              refine r_goto (tgt := 17) h dX1_has_113 (by decide) ?_
              exact V.sub [2, 3, 4, 5, 0] rfl hf
            · have hf := ite_t c35 hf
              refine r_iload_n h 3 dX1_has_94 rfl rfl ?_
              refine r_goto (tgt := 109) h dX1_has_95 (by decide) ?_
              obtain ⟨j42, hf⟩ := hf
              refine r_iastore h dX1_has_109 j42 ?_
              refine r_goW (fun M43 eM43 => ?_)
              have hf := hf M43 eM43
              refine r_iinc (v := v5 + 1) (lv' := [(5, .int (v5 + 1)), (6, .int (((300 : Int32) * v5) + v4)), (0, .ref v0), (1, .int v1), (3, .int v3), (4, .int v4)]) h 5 dX1_has_110 rfl rfl (by decide) rfl ?_
              refine r_goto (tgt := 17) h dX1_has_113 (by decide) ?_
              exact V.sub [2, 3, 4, 5, 0] rfl hf
          · have hf := ite_f c29 hf
            refine r_goto (tgt := 110) h dX1_has_64 (by decide) ?_
            refine r_iinc (v := v5 + 1) (lv' := [(5, .int (v5 + 1)), (0, .ref v0), (1, .int v1), (3, .int v3), (4, .int v4)]) h 4 dX1_has_110 rfl rfl (by decide) rfl ?_
            refine r_goto (tgt := 17) h dX1_has_113 (by decide) ?_
            exact V.sub [1, 2, 3, 4, 0] rfl hf)
  refine r_aload_n h 0 dX1_has_0 rfl rfl ?_
  obtain ⟨k1, hf⟩ := hf
  obtain ⟨b2, e3, hf⟩ := hf
  refine g580 h dX1_has_1 k1 e3 ?_
  refine r_sipush (v := 300) h dX1_has_4 (by decide) ?_
  refine r_iload_n h 1 dX1_has_7 rfl rfl ?_
  refine r_imul h dX1_has_8 ?_
  refine r_iload_n h 2 dX1_has_9 rfl rfl ?_
  refine r_iadd h dX1_has_10 ?_
  obtain ⟨j4, hf⟩ := hf
  refine r_iaload h dX1_has_11 j4 ?_
  refine r_istore (lv' := [(4, .int (iv M b2 (ix (((300 : Int32) * a1) + a2)))), (0, .ref a0), (1, .int a1), (2, .int a2), (3, .int a3)]) h dX1_has_12 (by decide) rfl ?_
  refine r_iconst (v := 0) h dX1_has_14 (by decide) ?_
  refine r_istore (lv' := [(5, .int 0), (4, .int (iv M b2 (ix (((300 : Int32) * a1) + a2)))), (0, .ref a0), (1, .int a1), (2, .int a2), (3, .int a3)]) h dX1_has_15 (by decide) rfl ?_
  exact V.sub [2, 3, 5, 1, 0] rfl hf
theorem c1489 {l : Launch} {G : gG} {X : gX} {cc : ByteArray} {nL F L bc bs pc : Nat} {M : gM} {lv : List (Nat × Value)} {rest : List Value} {a0 : Nat} {a1 : Int32} {a2 : Int32} {a3 : Int32} {K : gM → Prop} (hl : l.stackTraces = false) (h : hX l G X cc nL "GlacierMail" F L) (d : decode cc pc = .ok (.invokevirtual 376, 3)) (hk : kd M a0 = some (.inl 1)) (hf : f_X1_has a0 a1 a2 a3 M K) (hst : (rest.map fun v => v.category).sum ≤ 8) (hF : 2 ≤ F) (hL : 47 ≤ L) (kk : ∀ M1, K M1 → V l G X bc bs M1 (pc + 3) lv rest) : V l G X bc bs M pc lv (.int a3 :: .int a2 :: .int a1 :: .ref a0 :: rest) := r_callV (n := 3) (As := [.int a1, .int a2, .int a3]) h (m_X1_has hl hf) 1 rfl hk rfl ⟨by decide, by decide, by decide +kernel⟩ d q1489 q1491 qs47 q135 q1492 rfl rfl hst hF hL (Nat.zero_le _) (Nat.zero_le _) (kV_go kk) kN_go
def f_X1_answers (a0 : Nat) (a1 : Int32) (M : gM) (K : gM → Prop) : Prop :=
  ∀ P2 : Nat → Int32 → Int32 → gM → Prop,
  ∀ P47 : Nat → Int32 → gM → Prop,
  ∀ P58 : Nat → Int32 → Int32 → gM → Prop,
  (∀ (v0 : Nat) (v1 : Int32) (v2 : Int32) (M : gM), (kd M v0 = some (.inl 1) ∧ ∃ b2, rv M v0 8 = some b2 ∧ ∃ n4, kd M b2 = some (.inr (0, n4)) ∧ if (nI n4) ≤ v2 then ∃ b7, rv M v0 1 = some b7 ∧ kd M b7 = some (.inl 3) ∧ f_X1_has v0 v1 (iv M b7 22) 1 M (fun M10 => kd M10 v0 = some (.inl 1) ∧ ∃ b12, rv M10 v0 1 = some b12 ∧ kd M10 b12 = some (.inl 3) ∧ P47 v0 ((iv M10 b12 22) + 1) M10) else ∃ b15, rv M v0 8 = some b15 ∧ inA M b15 0 v2 ∧ ∀ M18, M18 = sI M b15 (ix v2) 0 → P2 v0 v1 (v2 + 1) M18) → P2 v0 v1 v2 M) →
  (∀ (v0 : Nat) (v2 : Int32) (M : gM), (if 300 ≤ (v2 + 1) then K M else P58 v0 v2 0 M) → P47 v0 v2 M) →
  (∀ (v0 : Nat) (v2 : Int32) (v3 : Int32) (M : gM), (kd M v0 = some (.inl 1) ∧ ∃ b21, rv M v0 1 = some b21 ∧ kd M b21 = some (.inl 3) ∧ if (iv M b21 13) ≤ v3 then P47 v0 (v2 + 1) M else ∃ b25, rv M v0 8 = some b25 ∧ inA M b25 0 (((300 : Int32) * v3) + v2) ∧ if (iv M b25 (ix (((300 : Int32) * v3) + v2))) ≤ 0 then P58 v0 v2 (v3 + 1) M else ∃ b29, rv M v0 8 = some b29 ∧ inA M b29 0 (((300 : Int32) * v3) + v2) ∧ f_X1_has v0 v3 (v2 + 1) ((iv M b29 (ix (((300 : Int32) * v3) + v2))) + 1) M (fun M32 => P58 v0 v2 (v3 + 1) M32)) → P58 v0 v2 v3 M) →
  P2 a0 a1 0 M
set_option maxHeartbeats 4000000 in
theorem m_X1_answers {l : Launch} (hl : l.stackTraces = false) {G : gG} {a0 : Nat} {a1 : Int32} {M : gM} {K : gM → Prop} (hf : f_X1_answers a0 a1 M K) : gMet l G yX1_answers (ws_ yX1_answers cX1_answers 4 none) ({ frames := 2, cells := 0, slots := 0, locals := 47 }) M [.ref a0, .int a1] (kV K) kN := by
  refine gm_of hl (ret := none) rfl (Nat.le_of_ble_eq_true rfl) (fun X h hq => ?_)
  have h : hX l G X cX1_answers 4 "GlacierMail" 2 47 := h
  have hf := hf
  show V l G X 0 0 M 0 [(0, .ref a0), (1, .int a1)] []
  have hf := hf
    (fun v0 v1 v2 M => V l G X 0 0 M 2 [(0, .ref v0), (1, .int v1), (2, .int v2)] [])
    (fun v0 v2 M => V l G X 0 0 M 47 [(0, .ref v0), (2, .int v2)] [])
    (fun v0 v2 v3 M => V l G X 0 0 M 58 [(0, .ref v0), (2, .int v2), (3, .int v3)] [])
    (by
      intro v0 v1 v2 M hf
      show V l G X 0 0 M 2 [(0, .ref v0), (1, .int v1), (2, .int v2)] []
      refine r_iload_n h 2 dX1_answers_2 rfl rfl ?_
      refine r_aload_n h 0 dX1_answers_3 rfl rfl ?_
      obtain ⟨k1, hf⟩ := hf
      obtain ⟨b2, e3, hf⟩ := hf
      refine g581 h dX1_answers_4 k1 e3 ?_
      obtain ⟨n4, k5, hf⟩ := hf
      refine r_alen h 0 n4 (by decide) dX1_answers_7 k5 ?_
      refine r_icmp_ge (tgt := 24) h dX1_answers_8 (by decide) (fun c6 => ?_) (fun c6 => ?_)
      · have hf := ite_t c6 hf
        refine r_aload_n h 0 dX1_answers_24 rfl rfl ?_
        refine r_iload_n h 1 dX1_answers_25 rfl rfl ?_
        refine r_aload_n h 0 dX1_answers_26 rfl rfl ?_
        obtain ⟨b7, e8, hf⟩ := hf
        refine g573 h dX1_answers_27 k1 e8 ?_
        obtain ⟨k9, hf⟩ := hf
        refine g381 h dX1_answers_30 k9 ?_
        refine r_iconst (v := 1) h dX1_answers_33 (by decide) ?_
        refine c1489 hl h dX1_answers_34 k1 hf (Nat.le_of_ble_eq_true rfl) (by decide) (by decide) (fun M10 hf => ?_)
        refine r_aload_n h 0 dX1_answers_37 rfl rfl ?_
        obtain ⟨k11, hf⟩ := hf
        obtain ⟨b12, e13, hf⟩ := hf
        refine g573 h dX1_answers_38 k11 e13 ?_
        obtain ⟨k14, hf⟩ := hf
        refine g381 h dX1_answers_41 k14 ?_
        refine r_iconst (v := 1) h dX1_answers_44 (by decide) ?_
        refine r_iadd h dX1_answers_45 ?_
        refine r_istore_n (lv' := [(2, .int ((iv M10 b12 22) + 1)), (0, .ref v0), (1, .int v1)]) h dX1_answers_46 rfl (by decide) rfl ?_
        exact V.sub [1, 0] rfl hf
      · have hf := ite_f c6 hf
        refine r_aload_n h 0 dX1_answers_11 rfl rfl ?_
        obtain ⟨b15, e16, hf⟩ := hf
        refine g581 h dX1_answers_12 k1 e16 ?_
        refine r_iload_n h 2 dX1_answers_15 rfl rfl ?_
        refine r_iconst (v := 0) h dX1_answers_16 (by decide) ?_
        obtain ⟨j17, hf⟩ := hf
        refine r_iastore h dX1_answers_17 j17 ?_
        refine r_goW (fun M18 eM18 => ?_)
        have hf := hf M18 eM18
        refine r_iinc (v := v2 + 1) (lv' := [(2, .int (v2 + 1)), (0, .ref v0), (1, .int v1)]) h 2 dX1_answers_18 rfl rfl (by decide) rfl ?_
        refine r_goto (tgt := 2) h dX1_answers_21 (by decide) ?_
        exact V.sub [1, 2, 0] rfl hf)
    (by
      intro v0 v2 M hf
      show V l G X 0 0 M 47 [(0, .ref v0), (2, .int v2)] []
      refine r_iload_n h 1 dX1_answers_47 rfl rfl ?_
      refine r_iconst (v := 1) h dX1_answers_48 (by decide) ?_
      refine r_iadd h dX1_answers_49 ?_
      refine r_sipush (v := 300) h dX1_answers_50 (by decide) ?_
      refine r_icmp_ge (tgt := 118) h dX1_answers_53 (by decide) (fun c19 => ?_) (fun c19 => ?_)
      · have hf := ite_t c19 hf
        exact r_return h hq dX1_answers_118 ⟨rfl, hf⟩
      · have hf := ite_f c19 hf
        refine r_iconst (v := 0) h dX1_answers_56 (by decide) ?_
        refine r_istore_n (lv' := [(3, .int 0), (0, .ref v0), (2, .int v2)]) h dX1_answers_57 rfl (by decide) rfl ?_
        exact V.sub [1, 2, 0] rfl hf)
    (by
      intro v0 v2 v3 M hf
      show V l G X 0 0 M 58 [(0, .ref v0), (2, .int v2), (3, .int v3)] []
      refine r_iload_n h 2 dX1_answers_58 rfl rfl ?_
      refine r_aload_n h 0 dX1_answers_59 rfl rfl ?_
      obtain ⟨k20, hf⟩ := hf
      obtain ⟨b21, e22, hf⟩ := hf
      refine g573 h dX1_answers_60 k20 e22 ?_
      obtain ⟨k23, hf⟩ := hf
      refine g355 h dX1_answers_63 k23 ?_
      refine r_icmp_ge (tgt := 112) h dX1_answers_66 (by decide) (fun c24 => ?_) (fun c24 => ?_)
      · have hf := ite_t c24 hf
        refine r_iinc (v := v2 + 1) (lv' := [(2, .int (v2 + 1)), (0, .ref v0), (3, .int v3)]) h 1 dX1_answers_112 rfl rfl (by decide) rfl ?_
        refine r_goto (tgt := 47) h dX1_answers_115 (by decide) ?_
        exact V.sub [1, 0] rfl hf
      · have hf := ite_f c24 hf
        refine r_aload_n h 0 dX1_answers_69 rfl rfl ?_
        obtain ⟨b25, e26, hf⟩ := hf
        refine g581 h dX1_answers_70 k20 e26 ?_
        refine r_sipush (v := 300) h dX1_answers_73 (by decide) ?_
        refine r_iload_n h 2 dX1_answers_76 rfl rfl ?_
        refine r_imul h dX1_answers_77 ?_
        refine r_iload_n h 1 dX1_answers_78 rfl rfl ?_
        refine r_iadd h dX1_answers_79 ?_
        obtain ⟨j27, hf⟩ := hf
        refine r_iaload h dX1_answers_80 j27 ?_
        refine r_if_le (tgt := 106) h dX1_answers_81 (by decide) (fun c28 => ?_) (fun c28 => ?_)
        · have hf := ite_t c28 hf
          refine r_iinc (v := v3 + 1) (lv' := [(3, .int (v3 + 1)), (0, .ref v0), (2, .int v2)]) h 2 dX1_answers_106 rfl rfl (by decide) rfl ?_
          refine r_goto (tgt := 58) h dX1_answers_109 (by decide) ?_
          exact V.sub [1, 2, 0] rfl hf
        · have hf := ite_f c28 hf
          refine r_aload_n h 0 dX1_answers_84 rfl rfl ?_
          refine r_iload_n h 2 dX1_answers_85 rfl rfl ?_
          refine r_iload_n h 1 dX1_answers_86 rfl rfl ?_
          refine r_iconst (v := 1) h dX1_answers_87 (by decide) ?_
          refine r_iadd h dX1_answers_88 ?_
          refine r_aload_n h 0 dX1_answers_89 rfl rfl ?_
          obtain ⟨b29, e30, hf⟩ := hf
          refine g581 h dX1_answers_90 k20 e30 ?_
          refine r_sipush (v := 300) h dX1_answers_93 (by decide) ?_
          refine r_iload_n h 2 dX1_answers_96 rfl rfl ?_
          refine r_imul h dX1_answers_97 ?_
          refine r_iload_n h 1 dX1_answers_98 rfl rfl ?_
          refine r_iadd h dX1_answers_99 ?_
          obtain ⟨j31, hf⟩ := hf
          refine r_iaload h dX1_answers_100 j31 ?_
          refine r_iconst (v := 1) h dX1_answers_101 (by decide) ?_
          refine r_iadd h dX1_answers_102 ?_
          refine c1489 hl h dX1_answers_103 k20 hf (Nat.le_of_ble_eq_true rfl) (by decide) (by decide) (fun M32 hf => ?_)
          refine r_iinc (v := v3 + 1) (lv' := [(3, .int (v3 + 1)), (0, .ref v0), (2, .int v2)]) h 2 dX1_answers_106 rfl rfl (by decide) rfl ?_
          refine r_goto (tgt := 58) h dX1_answers_109 (by decide) ?_
          exact V.sub [1, 2, 0] rfl hf)
  refine r_iconst (v := 0) h dX1_answers_0 (by decide) ?_
  refine r_istore_n (lv' := [(2, .int 0), (0, .ref a0), (1, .int a1)]) h dX1_answers_1 rfl (by decide) rfl ?_
  exact V.sub [1, 2, 0] rfl hf
theorem c1485 {l : Launch} {G : gG} {X : gX} {cc : ByteArray} {nL F L bc bs pc : Nat} {M : gM} {lv : List (Nat × Value)} {rest : List Value} {a0 : Nat} {a1 : Int32} {K : gM → Prop} (hl : l.stackTraces = false) (h : hX l G X cc nL "GlacierMail" F L) (d : decode cc pc = .ok (.invokevirtual 382, 3)) (hk : kd M a0 = some (.inl 1)) (hf : f_X1_answers a0 a1 M K) (hst : (rest.map fun v => v.category).sum ≤ 8) (hF : 3 ≤ F) (hL : 70 ≤ L) (kk : ∀ M1, K M1 → V l G X bc bs M1 (pc + 3) lv rest) : V l G X bc bs M pc lv (.int a1 :: .ref a0 :: rest) := r_callV (n := 1) (As := [.int a1]) h (m_X1_answers hl hf) 1 rfl hk rfl ⟨by decide, by decide, by decide +kernel⟩ d q1485 q1487 qs46 q135 q1488 rfl rfl hst hF hL (Nat.zero_le _) (Nat.zero_le _) (kV_go kk) kN_go
def f_X1_soonestOf (a0 : Nat) (a1 : Int32) (M : gM) (K : Int32 → gM → Prop) : Prop :=
  ∀ P8 : Nat → Int32 → Int32 → gM → Prop,
  (∀ (v0 : Nat) (v1 : Int32) (v2 : Int32) (M : gM), (if 300 ≤ v2 then K (-1) M else kd M v0 = some (.inl 1) ∧ ∃ b7, rv M v0 8 = some b7 ∧ inA M b7 0 (((300 : Int32) * v1) + v2) ∧ if (iv M b7 (ix (((300 : Int32) * v1) + v2))) ≤ 0 then P8 v0 v1 (v2 + 1) M else K v2 M) → P8 v0 v1 v2 M) →
  kd M a0 = some (.inl 1) ∧ ∃ b2, rv M a0 1 = some b2 ∧ kd M b2 = some (.inl 3) ∧ P8 a0 a1 (iv M b2 22) M
set_option maxHeartbeats 4000000 in
theorem m_X1_soonestOf {l : Launch} (hl : l.stackTraces = false) {G : gG} {a0 : Nat} {a1 : Int32} {M : gM} {K : Int32 → gM → Prop} (hf : f_X1_soonestOf a0 a1 M K) : gMet l G yX1_soonestOf (ws_ yX1_soonestOf cX1_soonestOf 3 (some Jvm.ClassFile.FieldType.int)) ({ frames := 0, cells := 0, slots := 0, locals := 0 }) M [.ref a0, .int a1] (kI K) kN := by
  refine gm_of hl (ret := (some Jvm.ClassFile.FieldType.int)) rfl (Nat.le_of_ble_eq_true rfl) (fun X h hq => ?_)
  have h : hX l G X cX1_soonestOf 3 "GlacierMail" 0 0 := h
  have hf := hf
  show V l G X 0 0 M 0 [(0, .ref a0), (1, .int a1)] []
  have hf := hf
    (fun v0 v1 v2 M => V l G X 0 0 M 8 [(0, .ref v0), (1, .int v1), (2, .int v2)] [])
    (by
      intro v0 v1 v2 M hf
      show V l G X 0 0 M 8 [(0, .ref v0), (1, .int v1), (2, .int v2)] []
      refine r_iload_n h 2 dX1_soonestOf_8 rfl rfl ?_
      refine r_sipush (v := 300) h dX1_soonestOf_9 (by decide) ?_
      refine r_icmp_ge (tgt := 38) h dX1_soonestOf_12 (by decide) (fun c5 => ?_) (fun c5 => ?_)
      · have hf := ite_t c5 hf
        refine r_iconst (v := (-1)) h dX1_soonestOf_38 (by decide) ?_
        exact r_ireturn h hq dX1_soonestOf_39 ⟨_, rfl, hf⟩
      · have hf := ite_f c5 hf
        refine r_aload_n h 0 dX1_soonestOf_15 rfl rfl ?_
        obtain ⟨k6, hf⟩ := hf
        obtain ⟨b7, e8, hf⟩ := hf
        refine g581 h dX1_soonestOf_16 k6 e8 ?_
        refine r_sipush (v := 300) h dX1_soonestOf_19 (by decide) ?_
        refine r_iload_n h 1 dX1_soonestOf_22 rfl rfl ?_
        refine r_imul h dX1_soonestOf_23 ?_
        refine r_iload_n h 2 dX1_soonestOf_24 rfl rfl ?_
        refine r_iadd h dX1_soonestOf_25 ?_
        obtain ⟨j9, hf⟩ := hf
        refine r_iaload h dX1_soonestOf_26 j9 ?_
        refine r_if_le (tgt := 32) h dX1_soonestOf_27 (by decide) (fun c10 => ?_) (fun c10 => ?_)
        · have hf := ite_t c10 hf
          refine r_iinc (v := v2 + 1) (lv' := [(2, .int (v2 + 1)), (0, .ref v0), (1, .int v1)]) h 2 dX1_soonestOf_32 rfl rfl (by decide) rfl ?_
          refine r_goto (tgt := 8) h dX1_soonestOf_35 (by decide) ?_
          exact V.sub [1, 2, 0] rfl hf
        · have hf := ite_f c10 hf
          refine r_iload_n h 2 dX1_soonestOf_30 rfl rfl ?_
          exact r_ireturn h hq dX1_soonestOf_31 ⟨_, rfl, hf⟩)
  refine r_aload_n h 0 dX1_soonestOf_0 rfl rfl ?_
  obtain ⟨k1, hf⟩ := hf
  obtain ⟨b2, e3, hf⟩ := hf
  refine g573 h dX1_soonestOf_1 k1 e3 ?_
  obtain ⟨k4, hf⟩ := hf
  refine g381 h dX1_soonestOf_4 k4 ?_
  refine r_istore_n (lv' := [(2, .int (iv M b2 22)), (0, .ref a0), (1, .int a1)]) h dX1_soonestOf_7 rfl (by decide) rfl ?_
  exact V.sub [1, 2, 0] rfl hf
theorem c1493 {l : Launch} {G : gG} {X : gX} {cc : ByteArray} {nL F L bc bs pc : Nat} {M : gM} {lv : List (Nat × Value)} {rest : List Value} {a0 : Nat} {a1 : Int32} {K : Int32 → gM → Prop} (hl : l.stackTraces = false) (h : hX l G X cc nL "GlacierMail" F L) (d : decode cc pc = .ok (.invokevirtual 385, 3)) (hk : kd M a0 = some (.inl 1)) (hf : f_X1_soonestOf a0 a1 M K) (hst : (rest.map fun v => v.category).sum ≤ 8) (hF : 1 ≤ F) (hL : 22 ≤ L) (kk : ∀ x M1, K x M1 → V l G X bc bs M1 (pc + 3) lv (.int x :: rest)) : V l G X bc bs M pc lv (.int a1 :: .ref a0 :: rest) := r_callV (n := 1) (As := [.int a1]) h (m_X1_soonestOf hl hf) 1 rfl hk rfl ⟨by decide, by decide, by decide +kernel⟩ d q1493 q1495 qs48 q135 q1496 rfl rfl hst hF hL (Nat.zero_le _) (Nat.zero_le _) (kI_go kk) kN_go
def f_X1_soonest (a0 : Nat) (a1 : Int32) (a2 : Int32) (a3 : Int32) (M : gM) (K : Int32 → gM → Prop) (KX : Addr → String → gM → Prop) : Prop :=
  ∀ P22 : Nat → Int32 → Int32 → Int32 → Int32 → gM → Prop,
  (∀ (v0 : Nat) (v1 : Int32) (v2 : Int32) (v3 : Int32) (s0 : Int32) (M : gM), (f_X1_must s0 M (fun M8 => kd M8 v0 = some (.inl 1) ∧ f_X1_lays v0 M8 (fun M10 => kd M10 v0 = some (.inl 1) ∧ f_X1_answers v0 v1 M10 (fun M12 => kd M12 v0 = some (.inl 1) ∧ f_X1_soonestOf v0 v2 M12 (fun x15 M14 => if v3 = 0 then K x15 M14 else if x15 = (-1) then K x15 M14 else kd M14 v0 = some (.inl 1) ∧ ∃ b19, rv M14 v0 8 = some b19 ∧ inA M14 b19 0 (((300 : Int32) * v2) + x15) ∧ K (iv M14 b19 (ix (((300 : Int32) * v2) + x15))) M14)))) KX) → P22 v0 v1 v2 v3 s0 M) →
  kd M a0 = some (.inl 1) ∧ f_X1_personAt a0 a1 M (fun b3 M2 => kd M2 a0 = some (.inl 1) ∧ f_X1_personAt a0 a2 M2 (fun b6 M5 => if a1 = a2 then P22 a0 a1 a2 a3 0 M5 else P22 a0 a1 a2 a3 1 M5) KX) KX
set_option maxHeartbeats 4000000 in
theorem m_X1_soonest {l : Launch} (hl : l.stackTraces = false) {G : gG} {a0 : Nat} {a1 : Int32} {a2 : Int32} {a3 : Int32} {M : gM} {K : Int32 → gM → Prop} {KX : Addr → String → gM → Prop} (hf : f_X1_soonest a0 a1 a2 a3 M K KX) : gMet l G yX1_soonest (ws_ yX1_soonest cX1_soonest 5 (some Jvm.ClassFile.FieldType.int)) ({ frames := 29, cells := 3, slots := 18, locals := 648 }) M [.ref a0, .int a1, .int a2, .int a3] (kI K) KX := by
  refine gm_of hl (ret := (some Jvm.ClassFile.FieldType.int)) rfl (Nat.le_of_ble_eq_true rfl) (fun X h hq => ?_)
  have h : hX l G X cX1_soonest 5 "GlacierMail" 29 648 := h
  have hf := hf
  show V l G X 3 18 M 0 [(0, .ref a0), (1, .int a1), (2, .int a2), (3, .int a3)] []
  have hf := hf
    (fun v0 v1 v2 v3 s0 M => V l G X 1 6 M 22 [(0, .ref v0), (1, .int v1), (2, .int v2), (3, .int v3)] [.int s0])
    (by
      intro v0 v1 v2 v3 s0 M hf
      show V l G X 1 6 M 22 [(0, .ref v0), (1, .int v1), (2, .int v2), (3, .int v3)] [.int s0]
      refine c1147 hl h dX1_soonest_22 hf (Nat.le_of_ble_eq_true rfl) (by decide) (by decide) (by decide) (by decide) (fun M8 hf => ?_) (fun q9 E9 M9 hf => r_out h hq hf)
      refine r_aload_n h 0 dX1_soonest_25 rfl rfl ?_
      obtain ⟨k9, hf⟩ := hf
      refine c1481 hl h dX1_soonest_26 k9 hf (Nat.le_of_ble_eq_true rfl) (by decide) (by decide) (fun M10 hf => ?_)
      refine r_aload_n h 0 dX1_soonest_29 rfl rfl ?_
      refine r_iload_n h 1 dX1_soonest_30 rfl rfl ?_
      obtain ⟨k11, hf⟩ := hf
      refine c1485 hl h dX1_soonest_31 k11 hf (Nat.le_of_ble_eq_true rfl) (by decide) (by decide) (fun M12 hf => ?_)
      refine r_aload_n h 0 dX1_soonest_34 rfl rfl ?_
      refine r_iload_n h 2 dX1_soonest_35 rfl rfl ?_
      obtain ⟨k13, hf⟩ := hf
      refine c1493 hl h dX1_soonest_36 k13 hf (Nat.le_of_ble_eq_true rfl) (by decide) (by decide) (fun x15 M14 hf => ?_)
      refine r_istore (lv' := [(4, .int x15), (0, .ref v0), (1, .int v1), (2, .int v2), (3, .int v3)]) h dX1_soonest_39 (by decide) rfl ?_
      refine r_iload_n h 4 dX1_soonest_41 rfl rfl ?_
      refine r_if_eq (tgt := 67) h dX1_soonest_42 (by decide) (fun c16 => ?_) (fun c16 => ?_)
      · have hf := ite_t c16 hf
        refine r_iload h 0 dX1_soonest_67 rfl ?_
        exact r_ireturn h hq dX1_soonest_69 ⟨_, rfl, hf⟩
      · have hf := ite_f c16 hf
        refine r_iload h 0 dX1_soonest_45 rfl ?_
        refine r_iconst (v := (-1)) h dX1_soonest_47 (by decide) ?_
        refine r_icmp_eq (tgt := 67) h dX1_soonest_48 (by decide) (fun c17 => ?_) (fun c17 => ?_)
        · have hf := ite_t c17 hf
          refine r_iload h 0 dX1_soonest_67 rfl ?_
          exact r_ireturn h hq dX1_soonest_69 ⟨_, rfl, hf⟩
        · have hf := ite_f c17 hf
          refine r_aload_n h 1 dX1_soonest_51 rfl rfl ?_
          obtain ⟨k18, hf⟩ := hf
          obtain ⟨b19, e20, hf⟩ := hf
          refine g581 h dX1_soonest_52 k18 e20 ?_
          refine r_sipush (v := 300) h dX1_soonest_55 (by decide) ?_
          refine r_iload_n h 3 dX1_soonest_58 rfl rfl ?_
          refine r_imul h dX1_soonest_59 ?_
          refine r_iload h 0 dX1_soonest_60 rfl ?_
          refine r_iadd h dX1_soonest_62 ?_
          obtain ⟨j21, hf⟩ := hf
          refine r_iaload h dX1_soonest_63 j21 ?_
          refine r_goto (tgt := 69) h dX1_soonest_64 (by decide) ?_
          exact r_ireturn h hq dX1_soonest_69 ⟨_, rfl, hf⟩)
  refine r_aload_n h 0 dX1_soonest_0 rfl rfl ?_
  refine r_iload_n h 1 dX1_soonest_1 rfl rfl ?_
  obtain ⟨k1, hf⟩ := hf
  refine c1231 hl h dX1_soonest_2 k1 hf (Nat.le_of_ble_eq_true rfl) (by decide) (by decide) (by decide) (by decide) (fun b3 M2 hf => ?_) (fun q9 E9 M9 hf => r_out h hq hf)
  refine r_pop h dX1_soonest_5 rfl ?_
  refine r_aload_n h 0 dX1_soonest_6 rfl rfl ?_
  refine r_iload_n h 2 dX1_soonest_7 rfl rfl ?_
  obtain ⟨k4, hf⟩ := hf
  refine c1231 hl h dX1_soonest_8 k4 hf (Nat.le_of_ble_eq_true rfl) (by decide) (by decide) (by decide) (by decide) (fun b6 M5 hf => ?_) (fun q9 E9 M9 hf => r_out h hq hf)
  refine r_pop h dX1_soonest_11 rfl ?_
  refine r_iload_n h 1 dX1_soonest_12 rfl rfl ?_
  refine r_iload_n h 2 dX1_soonest_13 rfl rfl ?_
  refine r_icmp_eq (tgt := 21) h dX1_soonest_14 (by decide) (fun c7 => ?_) (fun c7 => ?_)
  · have hf := ite_t c7 hf
    refine r_iconst (v := 0) h dX1_soonest_21 (by decide) ?_
    exact V.sub [0, 1, 2, 3] rfl hf
  · have hf := ite_f c7 hf
    refine r_iconst (v := 1) h dX1_soonest_17 (by decide) ?_
    refine r_goto (tgt := 22) h dX1_soonest_18 (by decide) ?_
    exact V.sub [0, 1, 2, 3] rfl hf
theorem c1477 {l : Launch} {G : gG} {X : gX} {cc : ByteArray} {nL F L bc bs pc : Nat} {M : gM} {lv : List (Nat × Value)} {rest : List Value} {a0 : Nat} {a1 : Int32} {a2 : Int32} {a3 : Int32} {K : Int32 → gM → Prop} {KX : Addr → String → gM → Prop} (hl : l.stackTraces = false) (h : hX l G X cc nL "GlacierMailLaw" F L) (d : decode cc pc = .ok (.invokevirtual 97, 3)) (hk : kd M a0 = some (.inl 1)) (hf : f_X1_soonest a0 a1 a2 a3 M K KX) (hst : (rest.map fun v => v.category).sum ≤ 8) (hF : 30 ≤ F) (hL : 672 ≤ L) (h1 : 3 ≤ bc) (h2 : 18 ≤ bs) (kk : ∀ x M1, K x M1 → V l G X (bc - 3) (bs - 18) M1 (pc + 3) lv (.int x :: rest)) (kx : ∀ q E M1, KX q E M1 → VX l G X (bc - 3) (bs - 18) M1 pc lv q E) : V l G X bc bs M pc lv (.int a3 :: .int a2 :: .int a1 :: .ref a0 :: rest) := r_callV (n := 3) (As := [.int a1, .int a2, .int a3]) h (m_X1_soonest hl hf) 1 rfl hk rfl ⟨by decide, by decide, by decide +kernel⟩ d q1477 q1478 q1479 q135 q1480 rfl rfl hst hF hL h1 h2 (kI_go kk) kx
def f_X0_soonest (a0 : Nat) (a1 : Int32) (a2 : Int32) (a3 : Int32) (a4 : Nat) (M : gM) (K : Int32 → gM → Prop) : Prop :=
  kd M a0 = some (.inl 1) ∧ f_X1_soonest a0 a1 a2 a3 M (fun x3 M2 => inA M2 a4 2 0 ∧ ∀ M5, M5 = sJ M2 a4 (ix 0) (x3.toInt64) → K 0 M5) (fun q9 E9 M9 => (E9 = "java/lang/IndexOutOfBoundsException" ∧ K 1 M9) ∨ (E9 = "java/lang/IllegalArgumentException" ∧ K 2 M9))
set_option maxHeartbeats 4000000 in
theorem m_X0_soonest {l : Launch} (hl : l.stackTraces = false) {G : gG} {a0 : Nat} {a1 : Int32} {a2 : Int32} {a3 : Int32} {a4 : Nat} {M : gM} {K : Int32 → gM → Prop} (hf : f_X0_soonest a0 a1 a2 a3 a4 M K) : gMet l G yX0_soonest (wsW_ yX0_soonest cX0_soonest 6 (some Jvm.ClassFile.FieldType.int) [(0, 12, 15, 28), (0, 12, 19, 13)]) ({ frames := 30, cells := 3, slots := 18, locals := 672 }) M [.ref a0, .int a1, .int a2, .int a3, .ref a4] (kI K) kN := by
  refine gm_ofH hl (ret := (some Jvm.ClassFile.FieldType.int)) rfl (Nat.le_of_ble_eq_true rfl) (fun X h hq => ?_)
  have h : hX l G X cX0_soonest 6 "GlacierMailLaw" 30 672 := h
  have hf := hf
  show V l G X 3 18 M 0 [(0, .ref a0), (1, .int a1), (2, .int a2), (3, .int a3), (4, .ref a4)] []
  unfold f_X0_soonest at hf
  refine r_aload h 4 dX0_soonest_0 rfl ?_
  refine r_iconst (v := 0) h dX0_soonest_2 (by decide) ?_
  refine r_aload_n h 0 dX0_soonest_3 rfl rfl ?_
  refine r_iload_n h 1 dX0_soonest_4 rfl rfl ?_
  refine r_iload_n h 2 dX0_soonest_5 rfl rfl ?_
  refine r_iload_n h 3 dX0_soonest_6 rfl rfl ?_
  obtain ⟨k1, hf⟩ := hf
  refine c1477 hl h dX0_soonest_7 k1 hf (Nat.le_of_ble_eq_true rfl) (by decide) (by decide) (by decide) (by decide) (fun x3 M2 hf => ?_) (fun q9 E9 M9 hf => ?_)
  · skip
    refine r_i2l h dX0_soonest_10 ?_
    obtain ⟨j4, hf⟩ := hf
    refine r_lastore h dX0_soonest_11 j4 ?_
    refine r_goW (fun M5 eM5 => ?_)
    have hf := hf M5 eM5
    refine r_goto (tgt := 23) h dX0_soonest_12 (by decide) ?_
    refine r_iconst (v := 0) h dX0_soonest_23 (by decide) ?_
    exact r_ireturn h hq dX0_soonest_24 ⟨_, rfl, hf⟩
  · rcases hf with ⟨rfl, hf⟩ | ⟨rfl, hf⟩
    · refine r_catch h hq 0 (E := "java/lang/IndexOutOfBoundsException") (nm := "java/lang/IndexOutOfBoundsException") rfl (fun z hz => nomatch hz) (by decide) (by decide) q1153 (List.mem_of_getElem? (i := 8) rfl) ?_
      refine r_astore (lv' := [(5, .ref q9), (0, .ref a0), (1, .int a1), (2, .int a2), (3, .int a3), (4, .ref a4)]) h dX0_soonest_15 (by decide) rfl ?_
      refine r_iconst (v := 1) h dX0_soonest_17 (by decide) ?_
      exact r_ireturn h hq dX0_soonest_18 ⟨_, rfl, hf⟩
    · refine r_catch h hq 1 (E := "java/lang/IllegalArgumentException") (nm := "java/lang/IllegalArgumentException") rfl (List.forall_mem_cons.mpr ⟨Or.inr ⟨by decide, "java/lang/IndexOutOfBoundsException", q1153, List.mem_of_getElem? (i := 16) rfl⟩, List.forall_mem_nil _⟩) (by decide) (by decide) q822 (List.mem_of_getElem? (i := 5) rfl) ?_
      refine r_astore (lv' := [(5, .ref q9), (0, .ref a0), (1, .int a1), (2, .int a2), (3, .int a3), (4, .ref a4)]) h dX0_soonest_19 (by decide) rfl ?_
      refine r_iconst (v := 2) h dX0_soonest_21 (by decide) ?_
      exact r_ireturn h hq dX0_soonest_22 ⟨_, rfl, hf⟩
theorem c1474 {l : Launch} {G : gG} {X : gX} {cc : ByteArray} {nL F L bc bs pc : Nat} {M : gM} {lv : List (Nat × Value)} {rest : List Value} {a0 : Nat} {a1 : Int32} {a2 : Int32} {a3 : Int32} {a4 : Nat} {K : Int32 → gM → Prop} (hl : l.stackTraces = false) (h : hX l G X cc nL "GlacierMailLaw" F L) (d : decode cc pc = .ok (.invokestatic 248, 3)) (hf : f_X0_soonest a0 a1 a2 a3 a4 M K) (hst : (rest.map fun v => v.category).sum ≤ 8) (hF : 31 ≤ F) (hL : 697 ≤ L) (h1 : 3 ≤ bc) (h2 : 18 ≤ bs) (kk : ∀ x M1, K x M1 → V l G X (bc - 3) (bs - 18) M1 (pc + 3) lv (.int x :: rest)) : V l G X bc bs M pc lv (.ref a4 :: .int a3 :: .int a2 :: .int a1 :: .ref a0 :: rest) := r_callSH (n := 5) (As := [.ref a0, .int a1, .int a2, .int a3, .ref a4]) h (m_X0_soonest hl hf) ⟨by decide, by decide, by decide +kernel⟩ d q1474 q1475 q134 q1476 rfl rfl hst hF hL h1 h2 (kI_go kk) kN_go
def f_X1_thrower (a0 : Nat) (a1 : Int32) (a2 : Int32) (a3 : Int32) (a4 : Int32) (M : gM) (K : Int32 → gM → Prop) : Prop :=
  ∀ P3 : Nat → Int32 → Int32 → Int32 → Int32 → Int32 → gM → Prop,
  ∀ P107 : Nat → Int32 → Int32 → Int32 → Int32 → Int32 → Int32 → gM → Prop,
  (∀ (v0 : Nat) (v1 : Int32) (v2 : Int32) (v3 : Int32) (v4 : Int32) (v5 : Int32) (M : gM), (kd M v0 = some (.inl 1) ∧ ∃ b2, rv M v0 1 = some b2 ∧ kd M b2 = some (.inl 3) ∧ if (iv M b2 13) ≤ v5 then K (-1) M else ∃ b6, rv M v0 1 = some b6 ∧ kd M b6 = some (.inl 3) ∧ ∃ b9, rv M b6 2 = some b9 ∧ inA M b9 7 v1 ∧ ∃ b12, rv M b9 (ix v1) = some b12 ∧ kd M b12 = some (.inl 6) ∧ ∃ b15, rv M v0 1 = some b15 ∧ kd M b15 = some (.inl 3) ∧ ∃ b18, rv M b15 2 = some b18 ∧ inA M b18 7 v5 ∧ ∃ b21, rv M b18 (ix v5) = some b21 ∧ kd M b21 = some (.inl 6) ∧ if (iv M b12 2) = (iv M b21 0) then if v3 = 1 then if v5 = v4 then ∃ b30, rv M v0 7 = some b30 ∧ ∃ b32, rv M v0 1 = some b32 ∧ kd M b32 = some (.inl 3) ∧ inA M b30 0 (((300 : Int32) * v5) + (iv M b32 22)) ∧ if (iv M b30 (ix (((300 : Int32) * v5) + (iv M b32 22)))) = v2 then ∃ b37, rv M v0 1 = some b37 ∧ kd M b37 = some (.inl 3) ∧ K (((1000 : Int32) * v5) + (iv M b37 22)) M else P3 v0 v1 v2 v3 v4 (v5 + 1) M else P3 v0 v1 v2 v3 v4 (v5 + 1) M else ∃ b26, rv M v0 1 = some b26 ∧ kd M b26 = some (.inl 3) ∧ P107 v0 v1 v2 v3 v4 v5 ((iv M b26 22) + 1) M else P3 v0 v1 v2 v3 v4 (v5 + 1) M) → P3 v0 v1 v2 v3 v4 v5 M) →
  (∀ (v0 : Nat) (v1 : Int32) (v2 : Int32) (v3 : Int32) (v4 : Int32) (v5 : Int32) (v6 : Int32) (M : gM), (if v2 ≤ v6 then P3 v0 v1 v2 v3 v4 (v5 + 1) M else kd M v0 = some (.inl 1) ∧ ∃ b42, rv M v0 7 = some b42 ∧ inA M b42 0 (((300 : Int32) * v5) + v6) ∧ if (iv M b42 (ix (((300 : Int32) * v5) + v6))) = v2 then ∃ b46, rv M v0 8 = some b46 ∧ inA M b46 0 ((((300 : Int32) * v5) + v6) - 1) ∧ if (iv M b46 (ix ((((300 : Int32) * v5) + v6) - 1))) = (v3 - 1) then K (((1000 : Int32) * v5) + v6) M else P107 v0 v1 v2 v3 v4 v5 (v6 + 1) M else P107 v0 v1 v2 v3 v4 v5 (v6 + 1) M) → P107 v0 v1 v2 v3 v4 v5 v6 M) →
  P3 a0 a1 a2 a3 a4 0 M
set_option maxHeartbeats 4000000 in
theorem m_X1_thrower {l : Launch} (hl : l.stackTraces = false) {G : gG} {a0 : Nat} {a1 : Int32} {a2 : Int32} {a3 : Int32} {a4 : Int32} {M : gM} {K : Int32 → gM → Prop} (hf : f_X1_thrower a0 a1 a2 a3 a4 M K) : gMet l G yX1_thrower (ws_ yX1_thrower cX1_thrower 7 (some Jvm.ClassFile.FieldType.int)) ({ frames := 0, cells := 0, slots := 0, locals := 0 }) M [.ref a0, .int a1, .int a2, .int a3, .int a4] (kI K) kN := by
  refine gm_of hl (ret := (some Jvm.ClassFile.FieldType.int)) rfl (Nat.le_of_ble_eq_true rfl) (fun X h hq => ?_)
  have h : hX l G X cX1_thrower 7 "GlacierMail" 0 0 := h
  have hf := hf
  show V l G X 0 0 M 0 [(0, .ref a0), (1, .int a1), (2, .int a2), (3, .int a3), (4, .int a4)] []
  have hf := hf
    (fun v0 v1 v2 v3 v4 v5 M => V l G X 0 0 M 3 [(0, .ref v0), (1, .int v1), (2, .int v2), (3, .int v3), (4, .int v4), (5, .int v5)] [])
    (fun v0 v1 v2 v3 v4 v5 v6 M => V l G X 0 0 M 107 [(0, .ref v0), (1, .int v1), (2, .int v2), (3, .int v3), (4, .int v4), (5, .int v5), (6, .int v6)] [])
    (by
      intro v0 v1 v2 v3 v4 v5 M hf
      show V l G X 0 0 M 3 [(0, .ref v0), (1, .int v1), (2, .int v2), (3, .int v3), (4, .int v4), (5, .int v5)] []
      refine r_iload h 5 dX1_thrower_3 rfl ?_
      refine r_aload_n h 0 dX1_thrower_5 rfl rfl ?_
      obtain ⟨k1, hf⟩ := hf
      obtain ⟨b2, e3, hf⟩ := hf
      refine g573 h dX1_thrower_6 k1 e3 ?_
      obtain ⟨k4, hf⟩ := hf
      refine g355 h dX1_thrower_9 k4 ?_
      refine r_icmp_ge (tgt := 175) h dX1_thrower_12 (by decide) (fun c5 => ?_) (fun c5 => ?_)
      · have hf := ite_t c5 hf
        refine r_iconst (v := (-1)) h dX1_thrower_175 (by decide) ?_
        exact r_ireturn h hq dX1_thrower_176 ⟨_, rfl, hf⟩
      · have hf := ite_f c5 hf
        refine r_aload_n h 0 dX1_thrower_15 rfl rfl ?_
        obtain ⟨b6, e7, hf⟩ := hf
        refine g573 h dX1_thrower_16 k1 e7 ?_
        obtain ⟨k8, hf⟩ := hf
        obtain ⟨b9, e10, hf⟩ := hf
        refine g326 h dX1_thrower_19 k8 e10 ?_
        refine r_iload_n h 1 dX1_thrower_22 rfl rfl ?_
        obtain ⟨j11, b12, e13, hf⟩ := hf
        refine r_aaload h 7 (by decide) (by decide) dX1_thrower_23 j11 (v := .ref b12) (by rw [e13]; rfl) ?_
        obtain ⟨k14, hf⟩ := hf
        refine g266 h dX1_thrower_24 k14 ?_
        refine r_aload_n h 0 dX1_thrower_27 rfl rfl ?_
        obtain ⟨b15, e16, hf⟩ := hf
        refine g573 h dX1_thrower_28 k1 e16 ?_
        obtain ⟨k17, hf⟩ := hf
        obtain ⟨b18, e19, hf⟩ := hf
        refine g326 h dX1_thrower_31 k17 e19 ?_
        refine r_iload h 5 dX1_thrower_34 rfl ?_
        obtain ⟨j20, b21, e22, hf⟩ := hf
        refine r_aaload h 7 (by decide) (by decide) dX1_thrower_36 j20 (v := .ref b21) (by rw [e22]; rfl) ?_
        obtain ⟨k23, hf⟩ := hf
        refine g260 h dX1_thrower_37 k23 ?_
        refine r_icmp_eq (tgt := 46) h dX1_thrower_40 (by decide) (fun c24 => ?_) (fun c24 => ?_)
        · have hf := ite_t c24 hf
          refine r_iload_n h 3 dX1_thrower_46 rfl rfl ?_
          refine r_iconst (v := 1) h dX1_thrower_47 (by decide) ?_
          refine r_icmp_ne (tgt := 96) h dX1_thrower_48 (by decide) (fun c25 => ?_) (fun c25 => ?_)
          · have hf := ite_f c25 hf
            refine r_aload_n h 0 dX1_thrower_96 rfl rfl ?_
            obtain ⟨b26, e27, hf⟩ := hf
            refine g573 h dX1_thrower_97 k1 e27 ?_
            obtain ⟨k28, hf⟩ := hf
            refine g381 h dX1_thrower_100 k28 ?_
            refine r_iconst (v := 1) h dX1_thrower_103 (by decide) ?_
            refine r_iadd h dX1_thrower_104 ?_
            refine r_istore (lv' := [(6, .int ((iv M b26 22) + 1)), (0, .ref v0), (1, .int v1), (2, .int v2), (3, .int v3), (4, .int v4), (5, .int v5)]) h dX1_thrower_105 (by decide) rfl ?_
            exact V.sub [1, 2, 3, 4, 5, 6, 0] rfl hf
          · have hf := ite_t c25 hf
            refine r_iload h 5 dX1_thrower_51 rfl ?_
            refine r_iload h 4 dX1_thrower_53 rfl ?_
            refine r_icmp_ne (tgt := 169) h dX1_thrower_55 (by decide) (fun c29 => ?_) (fun c29 => ?_)
            · have hf := ite_f c29 hf
              refine r_iinc (v := v5 + 1) (lv' := [(5, .int (v5 + 1)), (0, .ref v0), (1, .int v1), (2, .int v2), (3, .int v3), (4, .int v4)]) h 5 dX1_thrower_169 rfl rfl (by decide) rfl ?_
              refine r_goto (tgt := 3) h dX1_thrower_172 (by decide) ?_
              exact V.sub [1, 2, 3, 4, 5, 0] rfl hf
            · have hf := ite_t c29 hf
              refine r_aload_n h 0 dX1_thrower_58 rfl rfl ?_
              obtain ⟨b30, e31, hf⟩ := hf
              refine g580 h dX1_thrower_59 k1 e31 ?_
              refine r_sipush (v := 300) h dX1_thrower_62 (by decide) ?_
              refine r_iload h 5 dX1_thrower_65 rfl ?_
              refine r_imul h dX1_thrower_67 ?_
              refine r_aload_n h 0 dX1_thrower_68 rfl rfl ?_
              obtain ⟨b32, e33, hf⟩ := hf
              refine g573 h dX1_thrower_69 k1 e33 ?_
              obtain ⟨k34, hf⟩ := hf
              refine g381 h dX1_thrower_72 k34 ?_
              refine r_iadd h dX1_thrower_75 ?_
              obtain ⟨j35, hf⟩ := hf
              refine r_iaload h dX1_thrower_76 j35 ?_
              refine r_iload_n h 2 dX1_thrower_77 rfl rfl ?_
              refine r_icmp_ne (tgt := 169) h dX1_thrower_78 (by decide) (fun c36 => ?_) (fun c36 => ?_)
              · have hf := ite_f c36 hf
                refine r_iinc (v := v5 + 1) (lv' := [(5, .int (v5 + 1)), (0, .ref v0), (1, .int v1), (2, .int v2), (3, .int v3), (4, .int v4)]) h 5 dX1_thrower_169 rfl rfl (by decide) rfl ?_
                refine r_goto (tgt := 3) h dX1_thrower_172 (by decide) ?_
                exact V.sub [1, 2, 3, 4, 5, 0] rfl hf
              · have hf := ite_t c36 hf
                refine r_sipush (v := 1000) h dX1_thrower_81 (by decide) ?_
                refine r_iload h 5 dX1_thrower_84 rfl ?_
                refine r_imul h dX1_thrower_86 ?_
                refine r_aload_n h 0 dX1_thrower_87 rfl rfl ?_
                obtain ⟨b37, e38, hf⟩ := hf
                refine g573 h dX1_thrower_88 k1 e38 ?_
                obtain ⟨k39, hf⟩ := hf
                refine g381 h dX1_thrower_91 k39 ?_
                refine r_iadd h dX1_thrower_94 ?_
                exact r_ireturn h hq dX1_thrower_95 ⟨_, rfl, hf⟩
        · have hf := ite_f c24 hf
          refine r_goto (tgt := 169) h dX1_thrower_43 (by decide) ?_
          refine r_iinc (v := v5 + 1) (lv' := [(5, .int (v5 + 1)), (0, .ref v0), (1, .int v1), (2, .int v2), (3, .int v3), (4, .int v4)]) h 5 dX1_thrower_169 rfl rfl (by decide) rfl ?_
          refine r_goto (tgt := 3) h dX1_thrower_172 (by decide) ?_
          exact V.sub [1, 2, 3, 4, 5, 0] rfl hf)
    (by
      intro v0 v1 v2 v3 v4 v5 v6 M hf
      show V l G X 0 0 M 107 [(0, .ref v0), (1, .int v1), (2, .int v2), (3, .int v3), (4, .int v4), (5, .int v5), (6, .int v6)] []
      refine r_iload h 6 dX1_thrower_107 rfl ?_
      refine r_iload_n h 2 dX1_thrower_109 rfl rfl ?_
      refine r_icmp_ge (tgt := 169) h dX1_thrower_110 (by decide) (fun c40 => ?_) (fun c40 => ?_)
      · have hf := ite_t c40 hf
        refine r_iinc (v := v5 + 1) (lv' := [(5, .int (v5 + 1)), (0, .ref v0), (1, .int v1), (2, .int v2), (3, .int v3), (4, .int v4), (6, .int v6)]) h 5 dX1_thrower_169 rfl rfl (by decide) rfl ?_
        refine r_goto (tgt := 3) h dX1_thrower_172 (by decide) ?_
        exact V.sub [1, 2, 3, 4, 5, 0] rfl hf
      · have hf := ite_f c40 hf
        refine r_aload_n h 0 dX1_thrower_113 rfl rfl ?_
        obtain ⟨k41, hf⟩ := hf
        obtain ⟨b42, e43, hf⟩ := hf
        refine g580 h dX1_thrower_114 k41 e43 ?_
        refine r_sipush (v := 300) h dX1_thrower_117 (by decide) ?_
        refine r_iload h 5 dX1_thrower_120 rfl ?_
        refine r_imul h dX1_thrower_122 ?_
        refine r_iload h 6 dX1_thrower_123 rfl ?_
        refine r_iadd h dX1_thrower_125 ?_
        obtain ⟨j44, hf⟩ := hf
        refine r_iaload h dX1_thrower_126 j44 ?_
        refine r_iload_n h 2 dX1_thrower_127 rfl rfl ?_
        refine r_icmp_ne (tgt := 163) h dX1_thrower_128 (by decide) (fun c45 => ?_) (fun c45 => ?_)
        · have hf := ite_f c45 hf
          refine r_iinc (v := v6 + 1) (lv' := [(6, .int (v6 + 1)), (0, .ref v0), (1, .int v1), (2, .int v2), (3, .int v3), (4, .int v4), (5, .int v5)]) h 6 dX1_thrower_163 rfl rfl (by decide) rfl ?_
          refine r_goto (tgt := 107) h dX1_thrower_166 (by decide) ?_
          exact V.sub [1, 2, 3, 4, 5, 6, 0] rfl hf
        · have hf := ite_t c45 hf
          refine r_aload_n h 0 dX1_thrower_131 rfl rfl ?_
          obtain ⟨b46, e47, hf⟩ := hf
          refine g581 h dX1_thrower_132 k41 e47 ?_
          refine r_sipush (v := 300) h dX1_thrower_135 (by decide) ?_
          refine r_iload h 5 dX1_thrower_138 rfl ?_
          refine r_imul h dX1_thrower_140 ?_
          refine r_iload h 6 dX1_thrower_141 rfl ?_
          refine r_iadd h dX1_thrower_143 ?_
          refine r_iconst (v := 1) h dX1_thrower_144 (by decide) ?_
          refine r_isub h dX1_thrower_145 ?_
          obtain ⟨j48, hf⟩ := hf
          refine r_iaload h dX1_thrower_146 j48 ?_
          refine r_iload_n h 3 dX1_thrower_147 rfl rfl ?_
          refine r_iconst (v := 1) h dX1_thrower_148 (by decide) ?_
          refine r_isub h dX1_thrower_149 ?_
          refine r_icmp_ne (tgt := 163) h dX1_thrower_150 (by decide) (fun c49 => ?_) (fun c49 => ?_)
          · have hf := ite_f c49 hf
            refine r_iinc (v := v6 + 1) (lv' := [(6, .int (v6 + 1)), (0, .ref v0), (1, .int v1), (2, .int v2), (3, .int v3), (4, .int v4), (5, .int v5)]) h 6 dX1_thrower_163 rfl rfl (by decide) rfl ?_
            refine r_goto (tgt := 107) h dX1_thrower_166 (by decide) ?_
            exact V.sub [1, 2, 3, 4, 5, 6, 0] rfl hf
          · have hf := ite_t c49 hf
            refine r_sipush (v := 1000) h dX1_thrower_153 (by decide) ?_
            refine r_iload h 5 dX1_thrower_156 rfl ?_
            refine r_imul h dX1_thrower_158 ?_
            refine r_iload h 6 dX1_thrower_159 rfl ?_
            refine r_iadd h dX1_thrower_161 ?_
            exact r_ireturn h hq dX1_thrower_162 ⟨_, rfl, hf⟩)
  refine r_iconst (v := 0) h dX1_thrower_0 (by decide) ?_
  refine r_istore (lv' := [(5, .int 0), (0, .ref a0), (1, .int a1), (2, .int a2), (3, .int a3), (4, .int a4)]) h dX1_thrower_1 (by decide) rfl ?_
  exact V.sub [1, 2, 3, 4, 5, 0] rfl hf
theorem c1504 {l : Launch} {G : gG} {X : gX} {cc : ByteArray} {nL F L bc bs pc : Nat} {M : gM} {lv : List (Nat × Value)} {rest : List Value} {a0 : Nat} {a1 : Int32} {a2 : Int32} {a3 : Int32} {a4 : Int32} {K : Int32 → gM → Prop} (hl : l.stackTraces = false) (h : hX l G X cc nL "GlacierMail" F L) (d : decode cc pc = .ok (.invokevirtual 388, 3)) (hk : kd M a0 = some (.inl 1)) (hf : f_X1_thrower a0 a1 a2 a3 a4 M K) (hst : (rest.map fun v => v.category).sum ≤ 8) (hF : 1 ≤ F) (hL : 26 ≤ L) (kk : ∀ x M1, K x M1 → V l G X bc bs M1 (pc + 3) lv (.int x :: rest)) : V l G X bc bs M pc lv (.int a4 :: .int a3 :: .int a2 :: .int a1 :: .ref a0 :: rest) := r_callV (n := 4) (As := [.int a1, .int a2, .int a3, .int a4]) h (m_X1_thrower hl hf) 1 rfl hk rfl ⟨by decide, by decide, by decide +kernel⟩ d q1504 q1506 qs49 q135 q1507 rfl rfl hst hF hL (Nat.zero_le _) (Nat.zero_le _) (kI_go kk) kN_go
def f_X1_chain (a0 : Nat) (a1 : Int32) (a2 : Int32) (a3 : Int32) (M : gM) (K : Int32 → gM → Prop) (KX : Addr → String → gM → Prop) : Prop :=
  ∀ P26 : Nat → Int32 → Int32 → Int32 → Int32 → gM → Prop,
  ∀ P68 : Nat → Int32 → Int32 → Int32 → Int32 → Int32 → gM → Prop,
  ∀ P91 : Nat → Int32 → Int32 → Int32 → Int32 → Int32 → gM → Prop,
  (∀ (v0 : Nat) (v1 : Int32) (v2 : Int32) (v3 : Int32) (s0 : Int32) (M : gM), (f_X1_must s0 M (fun M9 => kd M9 v0 = some (.inl 1) ∧ f_X1_lays v0 M9 (fun M11 => kd M11 v0 = some (.inl 1) ∧ f_X1_answers v0 v1 M11 (fun M13 => kd M13 v0 = some (.inl 1) ∧ f_X1_soonestOf v0 v2 M13 (fun x16 M15 => if x16 = (-1) then P68 v0 v1 v2 v3 x16 0 M15 else kd M15 v0 = some (.inl 1) ∧ ∃ b19, rv M15 v0 8 = some b19 ∧ inA M15 b19 0 (((300 : Int32) * v2) + x16) ∧ P68 v0 v1 v2 v3 x16 (iv M15 b19 (ix (((300 : Int32) * v2) + x16))) M15)))) KX) → P26 v0 v1 v2 v3 s0 M) →
  (∀ (v0 : Nat) (v1 : Int32) (v2 : Int32) (v3 : Int32) (v4 : Int32) (s0 : Int32) (M : gM), (if v4 = (-1) then K (-1) M else if v3 ≤ s0 then P91 v0 v1 v3 v4 v2 s0 M else K (-1) M) → P68 v0 v1 v2 v3 v4 s0 M) →
  (∀ (v0 : Nat) (v1 : Int32) (v3 : Int32) (v4 : Int32) (v6 : Int32) (v7 : Int32) (M : gM), (if v7 ≤ v3 then K v6 M else kd M v0 = some (.inl 1) ∧ f_X1_thrower v0 v6 v4 v7 v1 M (fun x27 M26 => P91 v0 v1 v3 ((x27 - x27 / 1000 * 1000) - 1) (x27 / 1000) (v7 + (-1)) M26)) → P91 v0 v1 v3 v4 v6 v7 M) →
  kd M a0 = some (.inl 1) ∧ f_X1_personAt a0 a1 M (fun b3 M2 => kd M2 a0 = some (.inl 1) ∧ f_X1_personAt a0 a2 M2 (fun b6 M5 => if a1 = a2 then P26 a0 a1 a2 a3 0 M5 else if a3 < 0 then P26 a0 a1 a2 a3 0 M5 else P26 a0 a1 a2 a3 1 M5) KX) KX
set_option maxHeartbeats 4000000 in
theorem m_X1_chain {l : Launch} (hl : l.stackTraces = false) {G : gG} {a0 : Nat} {a1 : Int32} {a2 : Int32} {a3 : Int32} {M : gM} {K : Int32 → gM → Prop} {KX : Addr → String → gM → Prop} (hf : f_X1_chain a0 a1 a2 a3 M K KX) : gMet l G yX1_chain (ws_ yX1_chain cX1_chain 9 (some Jvm.ClassFile.FieldType.int)) ({ frames := 29, cells := 3, slots := 18, locals := 648 }) M [.ref a0, .int a1, .int a2, .int a3] (kI K) KX := by
  refine gm_of hl (ret := (some Jvm.ClassFile.FieldType.int)) rfl (Nat.le_of_ble_eq_true rfl) (fun X h hq => ?_)
  have h : hX l G X cX1_chain 9 "GlacierMail" 29 648 := h
  have hf := hf
  show V l G X 3 18 M 0 [(0, .ref a0), (1, .int a1), (2, .int a2), (3, .int a3)] []
  have hf := hf
    (fun v0 v1 v2 v3 s0 M => V l G X 1 6 M 26 [(0, .ref v0), (1, .int v1), (2, .int v2), (3, .int v3)] [.int s0])
    (fun v0 v1 v2 v3 v4 s0 M => V l G X 0 0 M 68 [(0, .ref v0), (1, .int v1), (2, .int v2), (3, .int v3), (4, .int v4)] [.int s0])
    (fun v0 v1 v3 v4 v6 v7 M => V l G X 0 0 M 91 [(0, .ref v0), (1, .int v1), (3, .int v3), (4, .int v4), (6, .int v6), (7, .int v7)] [])
    (by
      intro v0 v1 v2 v3 s0 M hf
      show V l G X 1 6 M 26 [(0, .ref v0), (1, .int v1), (2, .int v2), (3, .int v3)] [.int s0]
      refine c1147 hl h dX1_chain_26 hf (Nat.le_of_ble_eq_true rfl) (by decide) (by decide) (by decide) (by decide) (fun M9 hf => ?_) (fun q9 E9 M9 hf => r_out h hq hf)
      refine r_aload_n h 0 dX1_chain_29 rfl rfl ?_
      obtain ⟨k10, hf⟩ := hf
      refine c1481 hl h dX1_chain_30 k10 hf (Nat.le_of_ble_eq_true rfl) (by decide) (by decide) (fun M11 hf => ?_)
      refine r_aload_n h 0 dX1_chain_33 rfl rfl ?_
      refine r_iload_n h 1 dX1_chain_34 rfl rfl ?_
      obtain ⟨k12, hf⟩ := hf
      refine c1485 hl h dX1_chain_35 k12 hf (Nat.le_of_ble_eq_true rfl) (by decide) (by decide) (fun M13 hf => ?_)
      refine r_aload_n h 0 dX1_chain_38 rfl rfl ?_
      refine r_iload_n h 2 dX1_chain_39 rfl rfl ?_
      obtain ⟨k14, hf⟩ := hf
      refine c1493 hl h dX1_chain_40 k14 hf (Nat.le_of_ble_eq_true rfl) (by decide) (by decide) (fun x16 M15 hf => ?_)
      refine r_istore (lv' := [(4, .int x16), (0, .ref v0), (1, .int v1), (2, .int v2), (3, .int v3)]) h dX1_chain_43 (by decide) rfl ?_
      refine r_iload h 0 dX1_chain_45 rfl ?_
      refine r_iconst (v := (-1)) h dX1_chain_47 (by decide) ?_
      refine r_icmp_ne (tgt := 55) h dX1_chain_48 (by decide) (fun c17 => ?_) (fun c17 => ?_)
      · have hf := ite_f c17 hf
        refine r_aload_n h 1 dX1_chain_55 rfl rfl ?_
        obtain ⟨k18, hf⟩ := hf
        obtain ⟨b19, e20, hf⟩ := hf
        refine g581 h dX1_chain_56 k18 e20 ?_
        refine r_sipush (v := 300) h dX1_chain_59 (by decide) ?_
        refine r_iload_n h 3 dX1_chain_62 rfl rfl ?_
        refine r_imul h dX1_chain_63 ?_
        refine r_iload h 0 dX1_chain_64 rfl ?_
        refine r_iadd h dX1_chain_66 ?_
        obtain ⟨j21, hf⟩ := hf
        refine r_iaload h dX1_chain_67 j21 ?_
        exact V.sub [1, 2, 3, 4, 0] rfl hf
      · have hf := ite_t c17 hf
        refine r_iconst (v := 0) h dX1_chain_51 (by decide) ?_
        refine r_goto (tgt := 68) h dX1_chain_52 (by decide) ?_
        exact V.sub [1, 2, 3, 4, 0] rfl hf)
    (by
      intro v0 v1 v2 v3 v4 s0 M hf
      show V l G X 0 0 M 68 [(0, .ref v0), (1, .int v1), (2, .int v2), (3, .int v3), (4, .int v4)] [.int s0]
      refine r_istore (lv' := [(5, .int s0), (0, .ref v0), (1, .int v1), (2, .int v2), (3, .int v3), (4, .int v4)]) h dX1_chain_68 (by decide) rfl ?_
      refine r_iload h 5 dX1_chain_70 rfl ?_
      refine r_iconst (v := (-1)) h dX1_chain_72 (by decide) ?_
      refine r_icmp_eq (tgt := 82) h dX1_chain_73 (by decide) (fun c22 => ?_) (fun c22 => ?_)
      · have hf := ite_t c22 hf
        refine r_iconst (v := (-1)) h dX1_chain_82 (by decide) ?_
        exact r_ireturn h hq dX1_chain_83 ⟨_, rfl, hf⟩
      · have hf := ite_f c22 hf
        refine r_iload_n h 4 dX1_chain_76 rfl rfl ?_
        refine r_iload h 0 dX1_chain_77 rfl ?_
        refine r_icmp_le (tgt := 84) h dX1_chain_79 (by decide) (fun c23 => ?_) (fun c23 => ?_)
        · have hf := ite_t c23 hf
          refine r_iload_n h 3 dX1_chain_84 rfl rfl ?_
          refine r_istore (lv' := [(6, .int v2), (5, .int s0), (0, .ref v0), (1, .int v1), (2, .int v2), (3, .int v3), (4, .int v4)]) h dX1_chain_85 (by decide) rfl ?_
          refine r_iload h 1 dX1_chain_87 rfl ?_
          refine r_istore (lv' := [(7, .int s0), (6, .int v2), (5, .int s0), (0, .ref v0), (1, .int v1), (2, .int v2), (3, .int v3), (4, .int v4)]) h dX1_chain_89 (by decide) rfl ?_
          exact V.sub [3, 4, 6, 7, 1, 0] rfl hf
        · have hf := ite_f c23 hf
          refine r_iconst (v := (-1)) h dX1_chain_82 (by decide) ?_
          exact r_ireturn h hq dX1_chain_83 ⟨_, rfl, hf⟩)
    (by
      intro v0 v1 v3 v4 v6 v7 M hf
      show V l G X 0 0 M 91 [(0, .ref v0), (1, .int v1), (3, .int v3), (4, .int v4), (6, .int v6), (7, .int v7)] []
      refine r_iload h 5 dX1_chain_91 rfl ?_
      refine r_iload_n h 2 dX1_chain_93 rfl rfl ?_
      refine r_icmp_le (tgt := 134) h dX1_chain_94 (by decide) (fun c24 => ?_) (fun c24 => ?_)
      · have hf := ite_t c24 hf
        refine r_iload h 4 dX1_chain_134 rfl ?_
        exact r_ireturn h hq dX1_chain_136 ⟨_, rfl, hf⟩
      · have hf := ite_f c24 hf
        refine r_aload_n h 0 dX1_chain_97 rfl rfl ?_
        refine r_iload h 4 dX1_chain_98 rfl ?_
        refine r_iload h 3 dX1_chain_100 rfl ?_
        refine r_iload h 5 dX1_chain_102 rfl ?_
        refine r_iload_n h 1 dX1_chain_104 rfl rfl ?_
        obtain ⟨k25, hf⟩ := hf
        refine c1504 hl h dX1_chain_105 k25 hf (Nat.le_of_ble_eq_true rfl) (by decide) (by decide) (fun x27 M26 hf => ?_)
        refine r_istore (lv' := [(8, .int x27), (0, .ref v0), (1, .int v1), (3, .int v3), (4, .int v4), (6, .int v6), (7, .int v7)]) h dX1_chain_108 (by decide) rfl ?_
        refine r_iload h 0 dX1_chain_110 rfl ?_
        refine r_sipush (v := 1000) h dX1_chain_112 (by decide) ?_
        refine r_idiv h dX1_chain_115 (by decide) ?_
        refine r_istore (lv' := [(6, .int (x27 / 1000)), (8, .int x27), (0, .ref v0), (1, .int v1), (3, .int v3), (4, .int v4), (7, .int v7)]) h dX1_chain_116 (by decide) rfl ?_
        refine r_iload h 1 dX1_chain_118 rfl ?_
        refine r_sipush (v := 1000) h dX1_chain_120 (by decide) ?_
        refine r_irem h dX1_chain_123 (by decide) ?_
        refine r_iconst (v := 1) h dX1_chain_124 (by decide) ?_
        refine r_isub h dX1_chain_125 ?_
        refine r_istore (lv' := [(4, .int ((x27 - x27 / 1000 * 1000) - 1)), (6, .int (x27 / 1000)), (8, .int x27), (0, .ref v0), (1, .int v1), (3, .int v3), (7, .int v7)]) h dX1_chain_126 (by decide) rfl ?_
        refine r_iinc (v := v7 + (-1)) (lv' := [(7, .int (v7 + (-1))), (4, .int ((x27 - x27 / 1000 * 1000) - 1)), (6, .int (x27 / 1000)), (8, .int x27), (0, .ref v0), (1, .int v1), (3, .int v3)]) h 6 dX1_chain_128 rfl rfl (by decide) rfl ?_
        refine r_goto (tgt := 91) h dX1_chain_131 (by decide) ?_
        exact V.sub [4, 5, 6, 1, 2, 0] rfl hf)
  refine r_aload_n h 0 dX1_chain_0 rfl rfl ?_
  refine r_iload_n h 1 dX1_chain_1 rfl rfl ?_
  obtain ⟨k1, hf⟩ := hf
  refine c1231 hl h dX1_chain_2 k1 hf (Nat.le_of_ble_eq_true rfl) (by decide) (by decide) (by decide) (by decide) (fun b3 M2 hf => ?_) (fun q9 E9 M9 hf => r_out h hq hf)
  refine r_pop h dX1_chain_5 rfl ?_
  refine r_aload_n h 0 dX1_chain_6 rfl rfl ?_
  refine r_iload_n h 2 dX1_chain_7 rfl rfl ?_
  obtain ⟨k4, hf⟩ := hf
  refine c1231 hl h dX1_chain_8 k4 hf (Nat.le_of_ble_eq_true rfl) (by decide) (by decide) (by decide) (by decide) (fun b6 M5 hf => ?_) (fun q9 E9 M9 hf => r_out h hq hf)
  refine r_pop h dX1_chain_11 rfl ?_
  refine r_iload_n h 1 dX1_chain_12 rfl rfl ?_
  refine r_iload_n h 2 dX1_chain_13 rfl rfl ?_
  refine r_icmp_eq (tgt := 25) h dX1_chain_14 (by decide) (fun c7 => ?_) (fun c7 => ?_)
  · have hf := ite_t c7 hf
    refine r_iconst (v := 0) h dX1_chain_25 (by decide) ?_
    exact V.sub [0, 1, 2, 3] rfl hf
  · have hf := ite_f c7 hf
    refine r_iload_n h 3 dX1_chain_17 rfl rfl ?_
    refine r_if_lt (tgt := 25) h dX1_chain_18 (by decide) (fun c8 => ?_) (fun c8 => ?_)
    · have hf := ite_t c8 hf
      refine r_iconst (v := 0) h dX1_chain_25 (by decide) ?_
      exact V.sub [0, 1, 2, 3] rfl hf
    · have hf := ite_f c8 hf
      refine r_iconst (v := 1) h dX1_chain_21 (by decide) ?_
      refine r_goto (tgt := 26) h dX1_chain_22 (by decide) ?_
      exact V.sub [0, 1, 2, 3] rfl hf
theorem c1500 {l : Launch} {G : gG} {X : gX} {cc : ByteArray} {nL F L bc bs pc : Nat} {M : gM} {lv : List (Nat × Value)} {rest : List Value} {a0 : Nat} {a1 : Int32} {a2 : Int32} {a3 : Int32} {K : Int32 → gM → Prop} {KX : Addr → String → gM → Prop} (hl : l.stackTraces = false) (h : hX l G X cc nL "GlacierMailLaw" F L) (d : decode cc pc = .ok (.invokevirtual 101, 3)) (hk : kd M a0 = some (.inl 1)) (hf : f_X1_chain a0 a1 a2 a3 M K KX) (hst : (rest.map fun v => v.category).sum ≤ 8) (hF : 30 ≤ F) (hL : 676 ≤ L) (h1 : 3 ≤ bc) (h2 : 18 ≤ bs) (kk : ∀ x M1, K x M1 → V l G X (bc - 3) (bs - 18) M1 (pc + 3) lv (.int x :: rest)) (kx : ∀ q E M1, KX q E M1 → VX l G X (bc - 3) (bs - 18) M1 pc lv q E) : V l G X bc bs M pc lv (.int a3 :: .int a2 :: .int a1 :: .ref a0 :: rest) := r_callV (n := 3) (As := [.int a1, .int a2, .int a3]) h (m_X1_chain hl hf) 1 rfl hk rfl ⟨by decide, by decide, by decide +kernel⟩ d q1500 q1501 q1502 q135 q1503 rfl rfl hst hF hL h1 h2 (kI_go kk) kx
def f_X0_chain (a0 : Nat) (a1 : Int32) (a2 : Int32) (a3 : Int32) (a4 : Nat) (M : gM) (K : Int32 → gM → Prop) : Prop :=
  kd M a0 = some (.inl 1) ∧ f_X1_chain a0 a1 a2 a3 M (fun x3 M2 => inA M2 a4 2 0 ∧ ∀ M5, M5 = sJ M2 a4 (ix 0) (x3.toInt64) → K 0 M5) (fun q9 E9 M9 => (E9 = "java/lang/IndexOutOfBoundsException" ∧ K 1 M9) ∨ (E9 = "java/lang/IllegalArgumentException" ∧ K 2 M9))
set_option maxHeartbeats 4000000 in
theorem m_X0_chain {l : Launch} (hl : l.stackTraces = false) {G : gG} {a0 : Nat} {a1 : Int32} {a2 : Int32} {a3 : Int32} {a4 : Nat} {M : gM} {K : Int32 → gM → Prop} (hf : f_X0_chain a0 a1 a2 a3 a4 M K) : gMet l G yX0_chain (wsW_ yX0_chain cX0_chain 6 (some Jvm.ClassFile.FieldType.int) [(0, 12, 15, 28), (0, 12, 19, 13)]) ({ frames := 30, cells := 3, slots := 18, locals := 676 }) M [.ref a0, .int a1, .int a2, .int a3, .ref a4] (kI K) kN := by
  refine gm_ofH hl (ret := (some Jvm.ClassFile.FieldType.int)) rfl (Nat.le_of_ble_eq_true rfl) (fun X h hq => ?_)
  have h : hX l G X cX0_chain 6 "GlacierMailLaw" 30 676 := h
  have hf := hf
  show V l G X 3 18 M 0 [(0, .ref a0), (1, .int a1), (2, .int a2), (3, .int a3), (4, .ref a4)] []
  unfold f_X0_chain at hf
  refine r_aload h 4 dX0_chain_0 rfl ?_
  refine r_iconst (v := 0) h dX0_chain_2 (by decide) ?_
  refine r_aload_n h 0 dX0_chain_3 rfl rfl ?_
  refine r_iload_n h 1 dX0_chain_4 rfl rfl ?_
  refine r_iload_n h 2 dX0_chain_5 rfl rfl ?_
  refine r_iload_n h 3 dX0_chain_6 rfl rfl ?_
  obtain ⟨k1, hf⟩ := hf
  refine c1500 hl h dX0_chain_7 k1 hf (Nat.le_of_ble_eq_true rfl) (by decide) (by decide) (by decide) (by decide) (fun x3 M2 hf => ?_) (fun q9 E9 M9 hf => ?_)
  · skip
    refine r_i2l h dX0_chain_10 ?_
    obtain ⟨j4, hf⟩ := hf
    refine r_lastore h dX0_chain_11 j4 ?_
    refine r_goW (fun M5 eM5 => ?_)
    have hf := hf M5 eM5
    refine r_goto (tgt := 23) h dX0_chain_12 (by decide) ?_
    refine r_iconst (v := 0) h dX0_chain_23 (by decide) ?_
    exact r_ireturn h hq dX0_chain_24 ⟨_, rfl, hf⟩
  · rcases hf with ⟨rfl, hf⟩ | ⟨rfl, hf⟩
    · refine r_catch h hq 0 (E := "java/lang/IndexOutOfBoundsException") (nm := "java/lang/IndexOutOfBoundsException") rfl (fun z hz => nomatch hz) (by decide) (by decide) q1153 (List.mem_of_getElem? (i := 8) rfl) ?_
      refine r_astore (lv' := [(5, .ref q9), (0, .ref a0), (1, .int a1), (2, .int a2), (3, .int a3), (4, .ref a4)]) h dX0_chain_15 (by decide) rfl ?_
      refine r_iconst (v := 1) h dX0_chain_17 (by decide) ?_
      exact r_ireturn h hq dX0_chain_18 ⟨_, rfl, hf⟩
    · refine r_catch h hq 1 (E := "java/lang/IllegalArgumentException") (nm := "java/lang/IllegalArgumentException") rfl (List.forall_mem_cons.mpr ⟨Or.inr ⟨by decide, "java/lang/IndexOutOfBoundsException", q1153, List.mem_of_getElem? (i := 16) rfl⟩, List.forall_mem_nil _⟩) (by decide) (by decide) q822 (List.mem_of_getElem? (i := 5) rfl) ?_
      refine r_astore (lv' := [(5, .ref q9), (0, .ref a0), (1, .int a1), (2, .int a2), (3, .int a3), (4, .ref a4)]) h dX0_chain_19 (by decide) rfl ?_
      refine r_iconst (v := 2) h dX0_chain_21 (by decide) ?_
      exact r_ireturn h hq dX0_chain_22 ⟨_, rfl, hf⟩
theorem c1497 {l : Launch} {G : gG} {X : gX} {cc : ByteArray} {nL F L bc bs pc : Nat} {M : gM} {lv : List (Nat × Value)} {rest : List Value} {a0 : Nat} {a1 : Int32} {a2 : Int32} {a3 : Int32} {a4 : Nat} {K : Int32 → gM → Prop} (hl : l.stackTraces = false) (h : hX l G X cc nL "GlacierMailLaw" F L) (d : decode cc pc = .ok (.invokestatic 252, 3)) (hf : f_X0_chain a0 a1 a2 a3 a4 M K) (hst : (rest.map fun v => v.category).sum ≤ 8) (hF : 31 ≤ F) (hL : 701 ≤ L) (h1 : 3 ≤ bc) (h2 : 18 ≤ bs) (kk : ∀ x M1, K x M1 → V l G X (bc - 3) (bs - 18) M1 (pc + 3) lv (.int x :: rest)) : V l G X bc bs M pc lv (.ref a4 :: .int a3 :: .int a2 :: .int a1 :: .ref a0 :: rest) := r_callSH (n := 5) (As := [.ref a0, .int a1, .int a2, .int a3, .ref a4]) h (m_X0_chain hl hf) ⟨by decide, by decide, by decide +kernel⟩ d q1497 q1498 q134 q1499 rfl rfl hst hF hL h1 h2 (kI_go kk) kN_go
def f_X1_reached (a0 : Nat) (a1 : Int32) (a2 : Int32) (M : gM) (K : Int32 → gM → Prop) (KX : Addr → String → gM → Prop) : Prop :=
  ∀ P26 : Nat → Int32 → Int32 → Int32 → gM → Prop,
  (∀ (v0 : Nat) (v2 : Int32) (v3 : Int32) (v4 : Int32) (M : gM), (kd M v0 = some (.inl 1) ∧ ∃ b10, rv M v0 1 = some b10 ∧ kd M b10 = some (.inl 3) ∧ if (iv M b10 13) ≤ v4 then K v3 M else f_X1_soonestOf v0 v4 M (fun x15 M14 => if x15 = (-1) then P26 v0 v2 (v3 ||| 0) (v4 + 1) M14 else if v2 < x15 then P26 v0 v2 (v3 ||| 0) (v4 + 1) M14 else P26 v0 v2 (v3 ||| ((1 : Int32) <<< (v4 &&& 31))) (v4 + 1) M14)) → P26 v0 v2 v3 v4 M) →
  kd M a0 = some (.inl 1) ∧ f_X1_personAt a0 a1 M (fun b3 M2 => f_X1_isYear a2 M2 (fun M4 => kd M4 a0 = some (.inl 1) ∧ f_X1_lays a0 M4 (fun M6 => kd M6 a0 = some (.inl 1) ∧ f_X1_answers a0 a1 M6 (fun M8 => P26 a0 a2 ((1 : Int32) <<< (a1 &&& 31)) 0 M8))) KX) KX
set_option maxHeartbeats 4000000 in
theorem m_X1_reached {l : Launch} (hl : l.stackTraces = false) {G : gG} {a0 : Nat} {a1 : Int32} {a2 : Int32} {M : gM} {K : Int32 → gM → Prop} {KX : Addr → String → gM → Prop} (hf : f_X1_reached a0 a1 a2 M K KX) : gMet l G yX1_reached (ws_ yX1_reached cX1_reached 6 (some Jvm.ClassFile.FieldType.int)) ({ frames := 29, cells := 2, slots := 12, locals := 648 }) M [.ref a0, .int a1, .int a2] (kI K) KX := by
  refine gm_of hl (ret := (some Jvm.ClassFile.FieldType.int)) rfl (Nat.le_of_ble_eq_true rfl) (fun X h hq => ?_)
  have h : hX l G X cX1_reached 6 "GlacierMail" 29 648 := h
  have hf := hf
  show V l G X 2 12 M 0 [(0, .ref a0), (1, .int a1), (2, .int a2)] []
  have hf := hf
    (fun v0 v2 v3 v4 M => V l G X 0 0 M 26 [(0, .ref v0), (2, .int v2), (3, .int v3), (4, .int v4)] [])
    (by
      intro v0 v2 v3 v4 M hf
      show V l G X 0 0 M 26 [(0, .ref v0), (2, .int v2), (3, .int v3), (4, .int v4)] []
      refine r_iload h 3 dX1_reached_26 rfl ?_
      refine r_aload_n h 0 dX1_reached_28 rfl rfl ?_
      obtain ⟨k9, hf⟩ := hf
      obtain ⟨b10, e11, hf⟩ := hf
      refine g573 h dX1_reached_29 k9 e11 ?_
      obtain ⟨k12, hf⟩ := hf
      refine g355 h dX1_reached_32 k12 ?_
      refine r_icmp_ge (tgt := 75) h dX1_reached_35 (by decide) (fun c13 => ?_) (fun c13 => ?_)
      · have hf := ite_t c13 hf
        refine r_iload_n h 2 dX1_reached_75 rfl rfl ?_
        exact r_ireturn h hq dX1_reached_76 ⟨_, rfl, hf⟩
      · have hf := ite_f c13 hf
        refine r_aload_n h 0 dX1_reached_38 rfl rfl ?_
        refine r_iload h 3 dX1_reached_39 rfl ?_
        refine c1493 hl h dX1_reached_41 k9 hf (Nat.le_of_ble_eq_true rfl) (by decide) (by decide) (fun x15 M14 hf => ?_)
        refine r_istore (lv' := [(5, .int x15), (0, .ref v0), (2, .int v2), (3, .int v3), (4, .int v4)]) h dX1_reached_44 (by decide) rfl ?_
        refine r_iload_n h 3 dX1_reached_46 rfl rfl ?_
        refine r_iload h 0 dX1_reached_47 rfl ?_
        refine r_iconst (v := (-1)) h dX1_reached_49 (by decide) ?_
        refine r_icmp_eq (tgt := 66) h dX1_reached_50 (by decide) (fun c16 => ?_) (fun c16 => ?_)
        · have hf := ite_t c16 hf
          refine r_iconst (v := 0) h dX1_reached_66 (by decide) ?_
          refine r_ior h dX1_reached_67 ?_
          refine r_istore_n (lv' := [(3, .int (v3 ||| 0)), (5, .int x15), (0, .ref v0), (2, .int v2), (4, .int v4)]) h dX1_reached_68 rfl (by decide) rfl ?_
          refine r_iinc (v := v4 + 1) (lv' := [(4, .int (v4 + 1)), (3, .int (v3 ||| 0)), (5, .int x15), (0, .ref v0), (2, .int v2)]) h 4 dX1_reached_69 rfl rfl (by decide) rfl ?_
          refine r_goto (tgt := 26) h dX1_reached_72 (by decide) ?_
          exact V.sub [3, 4, 1, 0] rfl hf
        · have hf := ite_f c16 hf
          refine r_iload h 0 dX1_reached_53 rfl ?_
          refine r_iload_n h 2 dX1_reached_55 rfl rfl ?_
          refine r_icmp_gt (tgt := 66) h dX1_reached_56 (by decide) (fun c17 => ?_) (fun c17 => ?_)
          · have hf := ite_t c17 hf
            refine r_iconst (v := 0) h dX1_reached_66 (by decide) ?_
            refine r_ior h dX1_reached_67 ?_
            refine r_istore_n (lv' := [(3, .int (v3 ||| 0)), (5, .int x15), (0, .ref v0), (2, .int v2), (4, .int v4)]) h dX1_reached_68 rfl (by decide) rfl ?_
            refine r_iinc (v := v4 + 1) (lv' := [(4, .int (v4 + 1)), (3, .int (v3 ||| 0)), (5, .int x15), (0, .ref v0), (2, .int v2)]) h 4 dX1_reached_69 rfl rfl (by decide) rfl ?_
            refine r_goto (tgt := 26) h dX1_reached_72 (by decide) ?_
            exact V.sub [3, 4, 1, 0] rfl hf
          · have hf := ite_f c17 hf
            refine r_iconst (v := 1) h dX1_reached_59 (by decide) ?_
            refine r_iload h 4 dX1_reached_60 rfl ?_
            refine r_ishl h dX1_reached_62 ?_
            refine r_goto (tgt := 67) h dX1_reached_63 (by decide) ?_
            refine r_ior h dX1_reached_67 ?_
            refine r_istore_n (lv' := [(3, .int (v3 ||| ((1 : Int32) <<< (v4 &&& 31)))), (5, .int x15), (0, .ref v0), (2, .int v2), (4, .int v4)]) h dX1_reached_68 rfl (by decide) rfl ?_
            refine r_iinc (v := v4 + 1) (lv' := [(4, .int (v4 + 1)), (3, .int (v3 ||| ((1 : Int32) <<< (v4 &&& 31)))), (5, .int x15), (0, .ref v0), (2, .int v2)]) h 4 dX1_reached_69 rfl rfl (by decide) rfl ?_
            refine r_goto (tgt := 26) h dX1_reached_72 (by decide) ?_
            exact V.sub [3, 4, 1, 0] rfl hf)
  refine r_aload_n h 0 dX1_reached_0 rfl rfl ?_
  refine r_iload_n h 1 dX1_reached_1 rfl rfl ?_
  obtain ⟨k1, hf⟩ := hf
  refine c1231 hl h dX1_reached_2 k1 hf (Nat.le_of_ble_eq_true rfl) (by decide) (by decide) (by decide) (by decide) (fun b3 M2 hf => ?_) (fun q9 E9 M9 hf => r_out h hq hf)
  refine r_pop h dX1_reached_5 rfl ?_
  refine r_iload_n h 2 dX1_reached_6 rfl rfl ?_
  refine c1144 hl h dX1_reached_7 hf (Nat.le_of_ble_eq_true rfl) (by decide) (by decide) (by decide) (by decide) (fun M4 hf => ?_) (fun q9 E9 M9 hf => r_out h hq hf)
  refine r_aload_n h 0 dX1_reached_10 rfl rfl ?_
  obtain ⟨k5, hf⟩ := hf
  refine c1481 hl h dX1_reached_11 k5 hf (Nat.le_of_ble_eq_true rfl) (by decide) (by decide) (fun M6 hf => ?_)
  refine r_aload_n h 0 dX1_reached_14 rfl rfl ?_
  refine r_iload_n h 1 dX1_reached_15 rfl rfl ?_
  obtain ⟨k7, hf⟩ := hf
  refine c1485 hl h dX1_reached_16 k7 hf (Nat.le_of_ble_eq_true rfl) (by decide) (by decide) (fun M8 hf => ?_)
  refine r_iconst (v := 1) h dX1_reached_19 (by decide) ?_
  refine r_iload_n h 1 dX1_reached_20 rfl rfl ?_
  refine r_ishl h dX1_reached_21 ?_
  refine r_istore_n (lv' := [(3, .int ((1 : Int32) <<< (a1 &&& 31))), (0, .ref a0), (1, .int a1), (2, .int a2)]) h dX1_reached_22 rfl (by decide) rfl ?_
  refine r_iconst (v := 0) h dX1_reached_23 (by decide) ?_
  refine r_istore (lv' := [(4, .int 0), (3, .int ((1 : Int32) <<< (a1 &&& 31))), (0, .ref a0), (1, .int a1), (2, .int a2)]) h dX1_reached_24 (by decide) rfl ?_
  exact V.sub [2, 4, 1, 0] rfl hf
theorem c1511 {l : Launch} {G : gG} {X : gX} {cc : ByteArray} {nL F L bc bs pc : Nat} {M : gM} {lv : List (Nat × Value)} {rest : List Value} {a0 : Nat} {a1 : Int32} {a2 : Int32} {K : Int32 → gM → Prop} {KX : Addr → String → gM → Prop} (hl : l.stackTraces = false) (h : hX l G X cc nL "GlacierMailLaw" F L) (d : decode cc pc = .ok (.invokevirtual 104, 3)) (hk : kd M a0 = some (.inl 1)) (hf : f_X1_reached a0 a1 a2 M K KX) (hst : (rest.map fun v => v.category).sum ≤ 8) (hF : 30 ≤ F) (hL : 673 ≤ L) (h1 : 2 ≤ bc) (h2 : 12 ≤ bs) (kk : ∀ x M1, K x M1 → V l G X (bc - 2) (bs - 12) M1 (pc + 3) lv (.int x :: rest)) (kx : ∀ q E M1, KX q E M1 → VX l G X (bc - 2) (bs - 12) M1 pc lv q E) : V l G X bc bs M pc lv (.int a2 :: .int a1 :: .ref a0 :: rest) := r_callV (n := 2) (As := [.int a1, .int a2]) h (m_X1_reached hl hf) 1 rfl hk rfl ⟨by decide, by decide, by decide +kernel⟩ d q1511 q1512 q1513 q135 q1514 rfl rfl hst hF hL h1 h2 (kI_go kk) kx
def f_X0_reached (a0 : Nat) (a1 : Int32) (a2 : Int32) (a3 : Nat) (M : gM) (K : Int32 → gM → Prop) : Prop :=
  kd M a0 = some (.inl 1) ∧ f_X1_reached a0 a1 a2 M (fun x3 M2 => inA M2 a3 2 0 ∧ ∀ M5, M5 = sJ M2 a3 (ix 0) (x3.toInt64) → K 0 M5) (fun q9 E9 M9 => (E9 = "java/lang/IndexOutOfBoundsException" ∧ K 1 M9) ∨ (E9 = "java/lang/IllegalArgumentException" ∧ K 2 M9))
set_option maxHeartbeats 4000000 in
theorem m_X0_reached {l : Launch} (hl : l.stackTraces = false) {G : gG} {a0 : Nat} {a1 : Int32} {a2 : Int32} {a3 : Nat} {M : gM} {K : Int32 → gM → Prop} (hf : f_X0_reached a0 a1 a2 a3 M K) : gMet l G yX0_reached (wsW_ yX0_reached cX0_reached 5 (some Jvm.ClassFile.FieldType.int) [(0, 10, 13, 28), (0, 10, 17, 13)]) ({ frames := 30, cells := 2, slots := 12, locals := 673 }) M [.ref a0, .int a1, .int a2, .ref a3] (kI K) kN := by
  refine gm_ofH hl (ret := (some Jvm.ClassFile.FieldType.int)) rfl (Nat.le_of_ble_eq_true rfl) (fun X h hq => ?_)
  have h : hX l G X cX0_reached 5 "GlacierMailLaw" 30 673 := h
  have hf := hf
  show V l G X 2 12 M 0 [(0, .ref a0), (1, .int a1), (2, .int a2), (3, .ref a3)] []
  unfold f_X0_reached at hf
  refine r_aload_n h 3 dX0_reached_0 rfl rfl ?_
  refine r_iconst (v := 0) h dX0_reached_1 (by decide) ?_
  refine r_aload_n h 0 dX0_reached_2 rfl rfl ?_
  refine r_iload_n h 1 dX0_reached_3 rfl rfl ?_
  refine r_iload_n h 2 dX0_reached_4 rfl rfl ?_
  obtain ⟨k1, hf⟩ := hf
  refine c1511 hl h dX0_reached_5 k1 hf (Nat.le_of_ble_eq_true rfl) (by decide) (by decide) (by decide) (by decide) (fun x3 M2 hf => ?_) (fun q9 E9 M9 hf => ?_)
  · skip
    refine r_i2l h dX0_reached_8 ?_
    obtain ⟨j4, hf⟩ := hf
    refine r_lastore h dX0_reached_9 j4 ?_
    refine r_goW (fun M5 eM5 => ?_)
    have hf := hf M5 eM5
    refine r_goto (tgt := 21) h dX0_reached_10 (by decide) ?_
    refine r_iconst (v := 0) h dX0_reached_21 (by decide) ?_
    exact r_ireturn h hq dX0_reached_22 ⟨_, rfl, hf⟩
  · rcases hf with ⟨rfl, hf⟩ | ⟨rfl, hf⟩
    · refine r_catch h hq 0 (E := "java/lang/IndexOutOfBoundsException") (nm := "java/lang/IndexOutOfBoundsException") rfl (fun z hz => nomatch hz) (by decide) (by decide) q1153 (List.mem_of_getElem? (i := 8) rfl) ?_
      refine r_astore (lv' := [(4, .ref q9), (0, .ref a0), (1, .int a1), (2, .int a2), (3, .ref a3)]) h dX0_reached_13 (by decide) rfl ?_
      refine r_iconst (v := 1) h dX0_reached_15 (by decide) ?_
      exact r_ireturn h hq dX0_reached_16 ⟨_, rfl, hf⟩
    · refine r_catch h hq 1 (E := "java/lang/IllegalArgumentException") (nm := "java/lang/IllegalArgumentException") rfl (List.forall_mem_cons.mpr ⟨Or.inr ⟨by decide, "java/lang/IndexOutOfBoundsException", q1153, List.mem_of_getElem? (i := 16) rfl⟩, List.forall_mem_nil _⟩) (by decide) (by decide) q822 (List.mem_of_getElem? (i := 5) rfl) ?_
      refine r_astore (lv' := [(4, .ref q9), (0, .ref a0), (1, .int a1), (2, .int a2), (3, .ref a3)]) h dX0_reached_17 (by decide) rfl ?_
      refine r_iconst (v := 2) h dX0_reached_19 (by decide) ?_
      exact r_ireturn h hq dX0_reached_20 ⟨_, rfl, hf⟩
theorem c1508 {l : Launch} {G : gG} {X : gX} {cc : ByteArray} {nL F L bc bs pc : Nat} {M : gM} {lv : List (Nat × Value)} {rest : List Value} {a0 : Nat} {a1 : Int32} {a2 : Int32} {a3 : Nat} {K : Int32 → gM → Prop} (hl : l.stackTraces = false) (h : hX l G X cc nL "GlacierMailLaw" F L) (d : decode cc pc = .ok (.invokestatic 255, 3)) (hf : f_X0_reached a0 a1 a2 a3 M K) (hst : (rest.map fun v => v.category).sum ≤ 8) (hF : 31 ≤ F) (hL : 697 ≤ L) (h1 : 2 ≤ bc) (h2 : 12 ≤ bs) (kk : ∀ x M1, K x M1 → V l G X (bc - 2) (bs - 12) M1 (pc + 3) lv (.int x :: rest)) : V l G X bc bs M pc lv (.ref a3 :: .int a2 :: .int a1 :: .ref a0 :: rest) := r_callSH (n := 4) (As := [.ref a0, .int a1, .int a2, .ref a3]) h (m_X0_reached hl hf) ⟨by decide, by decide, by decide +kernel⟩ d q1508 q1509 q134 q1510 rfl rfl hst hF hL h1 h2 (kI_go kk) kN_go
def f_X1_loots (a0 : Nat) (a1 : Int32) (M : gM) (K : gM → Prop) : Prop :=
  ∀ P2 : Nat → Int32 → Int32 → gM → Prop,
  ∀ P26 : Nat → Int32 → Int32 → gM → Prop,
  (∀ (v0 : Nat) (v1 : Int32) (v2 : Int32) (M : gM), (kd M v0 = some (.inl 1) ∧ ∃ b2, rv M v0 9 = some b2 ∧ ∃ n4, kd M b2 = some (.inr (0, n4)) ∧ if (nI n4) ≤ v2 then P26 v0 v1 0 M else ∃ b7, rv M v0 9 = some b7 ∧ inA M b7 0 v2 ∧ ∀ M10, M10 = sI M b7 (ix v2) 0 → P2 v0 v1 (v2 + 1) M10) → P2 v0 v1 v2 M) →
  (∀ (v0 : Nat) (v1 : Int32) (v2 : Int32) (M : gM), (kd M v0 = some (.inl 1) ∧ ∃ b12, rv M v0 1 = some b12 ∧ kd M b12 = some (.inl 3) ∧ if (iv M b12 14) ≤ v2 then K M else ∃ b16, rv M v0 1 = some b16 ∧ kd M b16 = some (.inl 3) ∧ ∃ b19, rv M b16 3 = some b19 ∧ inA M b19 8 v2 ∧ ∃ b22, rv M b19 (ix v2) = some b22 ∧ kd M b22 = some (.inl 7) ∧ f_X7_isRock b22 M (fun x26 M25 => if x26 = 0 then kd M25 v0 = some (.inl 1) ∧ ∃ b29, rv M25 v0 4 = some b29 ∧ kd M25 b29 = some (.inl 9) ∧ f_X9_of b29 b22 M25 (fun b33 M32 => kd M32 b33 = some (.inl 9) ∧ if (iv M32 b33 3) = 2147483647 then P26 v0 v1 (v2 + 1) M32 else kd M32 v0 = some (.inl 1) ∧ ∃ b37, rv M32 v0 1 = some b37 ∧ kd M32 b37 = some (.inl 3) ∧ f_X1_isIn ((iv M32 b33 3) - (iv M32 b37 22)) 0 (v1 - 1) M32 (fun x41 M40 => if x41 = 0 then P26 v0 v1 (v2 + 1) M40 else kd M40 v0 = some (.inl 1) ∧ ∃ b44, rv M40 v0 9 = some b44 ∧ ∃ b46, rv M40 v0 1 = some b46 ∧ kd M40 b46 = some (.inl 3) ∧ kd M40 b22 = some (.inl 7) ∧ inA M40 b44 0 (((6 : Int32) * ((iv M32 b33 3) - (iv M40 b46 22))) + (iv M40 b22 2)) ∧ inA M40 b44 0 (((6 : Int32) * ((iv M32 b33 3) - (iv M40 b46 22))) + (iv M40 b22 2)) ∧ ∀ M52, M52 = sI M40 b44 (ix (((6 : Int32) * ((iv M32 b33 3) - (iv M40 b46 22))) + (iv M40 b22 2))) ((iv M40 b44 (ix (((6 : Int32) * ((iv M32 b33 3) - (iv M40 b46 22))) + (iv M40 b22 2)))) + 1) → P26 v0 v1 (v2 + 1) M52)) else P26 v0 v1 (v2 + 1) M25)) → P26 v0 v1 v2 M) →
  P2 a0 a1 0 M
set_option maxHeartbeats 4000000 in
theorem m_X1_loots {l : Launch} (hl : l.stackTraces = false) {G : gG} {a0 : Nat} {a1 : Int32} {M : gM} {K : gM → Prop} (hf : f_X1_loots a0 a1 M K) : gMet l G yX1_loots (ws_ yX1_loots cX1_loots 5 none) ({ frames := 29, cells := 0, slots := 0, locals := 647 }) M [.ref a0, .int a1] (kV K) kN := by
  refine gm_of hl (ret := none) rfl (Nat.le_of_ble_eq_true rfl) (fun X h hq => ?_)
  have h : hX l G X cX1_loots 5 "GlacierMail" 29 647 := h
  have hf := hf
  show V l G X 0 0 M 0 [(0, .ref a0), (1, .int a1)] []
  have hf := hf
    (fun v0 v1 v2 M => V l G X 0 0 M 2 [(0, .ref v0), (1, .int v1), (2, .int v2)] [])
    (fun v0 v1 v2 M => V l G X 0 0 M 26 [(0, .ref v0), (1, .int v1), (2, .int v2)] [])
    (by
      intro v0 v1 v2 M hf
      show V l G X 0 0 M 2 [(0, .ref v0), (1, .int v1), (2, .int v2)] []
      refine r_iload_n h 2 dX1_loots_2 rfl rfl ?_
      refine r_aload_n h 0 dX1_loots_3 rfl rfl ?_
      obtain ⟨k1, hf⟩ := hf
      obtain ⟨b2, e3, hf⟩ := hf
      refine g582 h dX1_loots_4 k1 e3 ?_
      obtain ⟨n4, k5, hf⟩ := hf
      refine r_alen h 0 n4 (by decide) dX1_loots_7 k5 ?_
      refine r_icmp_ge (tgt := 24) h dX1_loots_8 (by decide) (fun c6 => ?_) (fun c6 => ?_)
      · have hf := ite_t c6 hf
        refine r_iconst (v := 0) h dX1_loots_24 (by decide) ?_
        refine r_istore_n (lv' := [(2, .int 0), (0, .ref v0), (1, .int v1)]) h dX1_loots_25 rfl (by decide) rfl ?_
        exact V.sub [1, 2, 0] rfl hf
      · have hf := ite_f c6 hf
        refine r_aload_n h 0 dX1_loots_11 rfl rfl ?_
        obtain ⟨b7, e8, hf⟩ := hf
        refine g582 h dX1_loots_12 k1 e8 ?_
        refine r_iload_n h 2 dX1_loots_15 rfl rfl ?_
        refine r_iconst (v := 0) h dX1_loots_16 (by decide) ?_
        obtain ⟨j9, hf⟩ := hf
        refine r_iastore h dX1_loots_17 j9 ?_
        refine r_goW (fun M10 eM10 => ?_)
        have hf := hf M10 eM10
        refine r_iinc (v := v2 + 1) (lv' := [(2, .int (v2 + 1)), (0, .ref v0), (1, .int v1)]) h 2 dX1_loots_18 rfl rfl (by decide) rfl ?_
        refine r_goto (tgt := 2) h dX1_loots_21 (by decide) ?_
        exact V.sub [1, 2, 0] rfl hf)
    (by
      intro v0 v1 v2 M hf
      show V l G X 0 0 M 26 [(0, .ref v0), (1, .int v1), (2, .int v2)] []
      refine r_iload_n h 2 dX1_loots_26 rfl rfl ?_
      refine r_aload_n h 0 dX1_loots_27 rfl rfl ?_
      obtain ⟨k11, hf⟩ := hf
      obtain ⟨b12, e13, hf⟩ := hf
      refine g573 h dX1_loots_28 k11 e13 ?_
      obtain ⟨k14, hf⟩ := hf
      refine g358 h dX1_loots_31 k14 ?_
      refine r_icmp_ge (tgt := 130) h dX1_loots_34 (by decide) (fun c15 => ?_) (fun c15 => ?_)
      · have hf := ite_t c15 hf
        exact r_return h hq dX1_loots_130 ⟨rfl, hf⟩
      · have hf := ite_f c15 hf
        refine r_aload_n h 0 dX1_loots_37 rfl rfl ?_
        obtain ⟨b16, e17, hf⟩ := hf
        refine g573 h dX1_loots_38 k11 e17 ?_
        obtain ⟨k18, hf⟩ := hf
        obtain ⟨b19, e20, hf⟩ := hf
        refine g329 h dX1_loots_41 k18 e20 ?_
        refine r_iload_n h 2 dX1_loots_44 rfl rfl ?_
        obtain ⟨j21, b22, e23, hf⟩ := hf
        refine r_aaload h 8 (by decide) (by decide) dX1_loots_45 j21 (v := .ref b22) (by rw [e23]; rfl) ?_
        refine r_astore_n (lv' := [(3, .ref b22), (0, .ref v0), (1, .int v1), (2, .int v2)]) h dX1_loots_46 rfl (by decide) rfl ?_
        refine r_aload_n h 0 dX1_loots_47 rfl rfl ?_
        obtain ⟨k24, hf⟩ := hf
        refine c748 hl h dX1_loots_48 k24 hf (Nat.le_of_ble_eq_true rfl) (by decide) (by decide) (fun x26 M25 hf => ?_)
        refine r_if_eq (tgt := 57) h dX1_loots_51 (by decide) (fun c27 => ?_) (fun c27 => ?_)
        · have hf := ite_t c27 hf
          refine r_aload_n h 1 dX1_loots_57 rfl rfl ?_
          obtain ⟨k28, hf⟩ := hf
          obtain ⟨b29, e30, hf⟩ := hf
          refine g577 h dX1_loots_58 k28 e30 ?_
          refine r_aload_n h 0 dX1_loots_61 rfl rfl ?_
          obtain ⟨k31, hf⟩ := hf
          refine c649 hl h dX1_loots_62 k31 hf (Nat.le_of_ble_eq_true rfl) (by decide) (by decide) (fun b33 M32 hf => ?_)
          obtain ⟨k34, hf⟩ := hf
          refine g559 h dX1_loots_65 k34 ?_
          refine r_istore (lv' := [(4, .int (iv M32 b33 3)), (3, .ref b22), (0, .ref v0), (1, .int v1), (2, .int v2)]) h dX1_loots_68 (by decide) rfl ?_
          refine r_iload h 0 dX1_loots_70 rfl ?_
          refine r_ldc (v := 2147483647) h dX1_loots_72 q743 ?_
          refine r_icmp_eq (tgt := 124) h dX1_loots_74 (by decide) (fun c35 => ?_) (fun c35 => ?_)
          · have hf := ite_t c35 hf
            refine r_iinc (v := v2 + 1) (lv' := [(2, .int (v2 + 1)), (4, .int (iv M32 b33 3)), (3, .ref b22), (0, .ref v0), (1, .int v1)]) h 4 dX1_loots_124 rfl rfl (by decide) rfl ?_
            refine r_goto (tgt := 26) h dX1_loots_127 (by decide) ?_
            exact V.sub [3, 4, 0] rfl hf
          · have hf := ite_f c35 hf
            refine r_iload h 0 dX1_loots_77 rfl ?_
            refine r_aload_n h 2 dX1_loots_79 rfl rfl ?_
            obtain ⟨k36, hf⟩ := hf
            obtain ⟨b37, e38, hf⟩ := hf
            refine g573 h dX1_loots_80 k36 e38 ?_
            obtain ⟨k39, hf⟩ := hf
            refine g381 h dX1_loots_83 k39 ?_
            refine r_isub h dX1_loots_86 ?_
            refine r_iconst (v := 0) h dX1_loots_87 (by decide) ?_
            refine r_iload_n h 3 dX1_loots_88 rfl rfl ?_
            refine r_iconst (v := 1) h dX1_loots_89 (by decide) ?_
            refine r_isub h dX1_loots_90 ?_
            refine c634 hl h dX1_loots_91 hf (Nat.le_of_ble_eq_true rfl) (by decide) (by decide) (fun x41 M40 hf => ?_)
            refine r_if_eq (tgt := 124) h dX1_loots_94 (by decide) (fun c42 => ?_) (fun c42 => ?_)
            · have hf := ite_t c42 hf
              refine r_iinc (v := v2 + 1) (lv' := [(2, .int (v2 + 1)), (4, .int (iv M32 b33 3)), (3, .ref b22), (0, .ref v0), (1, .int v1)]) h 4 dX1_loots_124 rfl rfl (by decide) rfl ?_
              refine r_goto (tgt := 26) h dX1_loots_127 (by decide) ?_
              exact V.sub [3, 4, 0] rfl hf
            · have hf := ite_f c42 hf
              refine r_aload_n h 2 dX1_loots_97 rfl rfl ?_
              obtain ⟨k43, hf⟩ := hf
              obtain ⟨b44, e45, hf⟩ := hf
              refine g582 h dX1_loots_98 k43 e45 ?_
              refine r_bipush (v := 6) h dX1_loots_101 (by decide) ?_
              refine r_iload h 0 dX1_loots_103 rfl ?_
              refine r_aload_n h 2 dX1_loots_105 rfl rfl ?_
              obtain ⟨b46, e47, hf⟩ := hf
              refine g573 h dX1_loots_106 k43 e47 ?_
              obtain ⟨k48, hf⟩ := hf
              refine g381 h dX1_loots_109 k48 ?_
              refine r_isub h dX1_loots_112 ?_
              refine r_imul h dX1_loots_113 ?_
              refine r_aload_n h 1 dX1_loots_114 rfl rfl ?_
              obtain ⟨k49, hf⟩ := hf
              refine g286 h dX1_loots_115 k49 ?_
              refine r_iadd h dX1_loots_118 ?_
              refine r_dup2 h dX1_loots_119 rfl rfl ?_
              obtain ⟨j50, hf⟩ := hf
              refine r_iaload h dX1_loots_120 j50 ?_
              refine r_iconst (v := 1) h dX1_loots_121 (by decide) ?_
              refine r_iadd h dX1_loots_122 ?_
              obtain ⟨j51, hf⟩ := hf
              refine r_iastore h dX1_loots_123 j51 ?_
              refine r_goW (fun M52 eM52 => ?_)
              have hf := hf M52 eM52
              refine r_iinc (v := v2 + 1) (lv' := [(2, .int (v2 + 1)), (4, .int (iv M32 b33 3)), (3, .ref b22), (0, .ref v0), (1, .int v1)]) h 4 dX1_loots_124 rfl rfl (by decide) rfl ?_
              refine r_goto (tgt := 26) h dX1_loots_127 (by decide) ?_
              exact V.sub [3, 4, 0] rfl hf
        · have hf := ite_f c27 hf
          refine r_goto (tgt := 124) h dX1_loots_54 (by decide) ?_
          refine r_iinc (v := v2 + 1) (lv' := [(2, .int (v2 + 1)), (3, .ref b22), (0, .ref v0), (1, .int v1)]) h 3 dX1_loots_124 rfl rfl (by decide) rfl ?_
          refine r_goto (tgt := 26) h dX1_loots_127 (by decide) ?_
          exact V.sub [2, 3, 0] rfl hf)
  refine r_iconst (v := 0) h dX1_loots_0 (by decide) ?_
  refine r_istore_n (lv' := [(2, .int 0), (0, .ref a0), (1, .int a1)]) h dX1_loots_1 rfl (by decide) rfl ?_
  exact V.sub [1, 2, 0] rfl hf
theorem c1522 {l : Launch} {G : gG} {X : gX} {cc : ByteArray} {nL F L bc bs pc : Nat} {M : gM} {lv : List (Nat × Value)} {rest : List Value} {a0 : Nat} {a1 : Int32} {K : gM → Prop} (hl : l.stackTraces = false) (h : hX l G X cc nL "GlacierMail" F L) (d : decode cc pc = .ok (.invokevirtual 392, 3)) (hk : kd M a0 = some (.inl 1)) (hf : f_X1_loots a0 a1 M K) (hst : (rest.map fun v => v.category).sum ≤ 8) (hF : 30 ≤ F) (hL : 671 ≤ L) (kk : ∀ M1, K M1 → V l G X bc bs M1 (pc + 3) lv rest) : V l G X bc bs M pc lv (.int a1 :: .ref a0 :: rest) := r_callV (n := 1) (As := [.int a1]) h (m_X1_loots hl hf) 1 rfl hk rfl ⟨by decide, by decide, by decide +kernel⟩ d q1522 q1524 qs50 q135 q1525 rfl rfl hst hF hL (Nat.zero_le _) (Nat.zero_le _) (kV_go kk) kN_go
def f_X1_thieves (a0 : Nat) (a1 : Int32) (a2 : Int32) (M : gM) (K : Int32 → gM → Prop) (KX : Addr → String → gM → Prop) : Prop :=
  ∀ P17 : Nat → Int32 → Int32 → Int32 → gM → Prop,
  ∀ P45 : Nat → Int32 → Int32 → gM → Prop,
  ∀ P52 : Nat → Int32 → Int32 → Int32 → gM → Prop,
  ∀ P108 : Nat → Int32 → Int32 → Int32 → Int32 → gM → Prop,
  ∀ P145 : Nat → Int32 → Int32 → Int32 → Int32 → gM → Prop,
  ∀ P189 : Nat → Int32 → Int32 → Int32 → gM → Prop,
  (∀ (v0 : Nat) (v1 : Int32) (v2 : Int32) (v3 : Int32) (M : gM), (if 6 ≤ v3 then P45 v0 v2 (v1 - 1) M else kd M v0 = some (.inl 1) ∧ ∃ b8, rv M v0 10 = some b8 ∧ inA M b8 0 (((6 : Int32) * v1) + v3) ∧ ∀ M11, M11 = sI M b8 (ix (((6 : Int32) * v1) + v3)) 0 → P17 v0 v1 v2 (v3 + 1) M11) → P17 v0 v1 v2 v3 M) →
  (∀ (v0 : Nat) (v2 : Int32) (v3 : Int32) (M : gM), (if v3 < 0 then P189 v0 v2 0 1 M else P52 v0 v2 v3 0 M) → P45 v0 v2 v3 M) →
  (∀ (v0 : Nat) (v2 : Int32) (v3 : Int32) (v4 : Int32) (M : gM), (kd M v0 = some (.inl 1) ∧ ∃ b14, rv M v0 1 = some b14 ∧ kd M b14 = some (.inl 3) ∧ if (iv M b14 9) ≤ v4 then P45 v0 v2 (v3 + (-1)) M else ∃ b18, rv M v0 10 = some b18 ∧ inA M b18 0 (((6 : Int32) * (v3 + 1)) + v4) ∧ if v4 ≤ 0 then P108 v0 v2 v3 v4 (iv M b18 (ix (((6 : Int32) * (v3 + 1)) + v4))) M else ∃ b22, rv M v0 10 = some b22 ∧ inA M b22 0 ((((6 : Int32) * (v3 + 1)) + v4) - 1) ∧ ∀ x25, x25 = (if (iv M b18 (ix (((6 : Int32) * (v3 + 1)) + v4))) < (iv M b22 (ix ((((6 : Int32) * (v3 + 1)) + v4) - 1))) then (iv M b22 (ix ((((6 : Int32) * (v3 + 1)) + v4) - 1))) else (iv M b18 (ix (((6 : Int32) * (v3 + 1)) + v4)))) → P108 v0 v2 v3 v4 x25 M) → P52 v0 v2 v3 v4 M) →
  (∀ (v0 : Nat) (v2 : Int32) (v3 : Int32) (v4 : Int32) (v5 : Int32) (M : gM), (kd M v0 = some (.inl 1) ∧ ∃ b27, rv M v0 1 = some b27 ∧ kd M b27 = some (.inl 3) ∧ if (iv M b27 9) ≤ (v4 + 1) then P145 v0 v2 v3 v4 v5 M else ∃ b31, rv M v0 10 = some b31 ∧ inA M b31 0 ((((6 : Int32) * (v3 + 1)) + v4) + 1) ∧ ∀ x34, x34 = (if v5 < (iv M b31 (ix ((((6 : Int32) * (v3 + 1)) + v4) + 1))) then (iv M b31 (ix ((((6 : Int32) * (v3 + 1)) + v4) + 1))) else v5) → P145 v0 v2 v3 v4 x34 M) → P108 v0 v2 v3 v4 v5 M) →
  (∀ (v0 : Nat) (v2 : Int32) (v3 : Int32) (v4 : Int32) (v5 : Int32) (M : gM), (kd M v0 = some (.inl 1) ∧ ∃ b36, rv M v0 10 = some b36 ∧ ∃ b38, rv M v0 9 = some b38 ∧ inA M b38 0 (((6 : Int32) * v3) + v4) ∧ inA M b36 0 (((6 : Int32) * v3) + v4) ∧ ∀ M42, M42 = sI M b36 (ix (((6 : Int32) * v3) + v4)) (v5 + (iv M b38 (ix (((6 : Int32) * v3) + v4)))) → P52 v0 v2 v3 (v4 + 1) M42) → P145 v0 v2 v3 v4 v5 M) →
  (∀ (v0 : Nat) (v2 : Int32) (v3 : Int32) (v4 : Int32) (M : gM), (kd M v0 = some (.inl 1) ∧ ∃ b44, rv M v0 1 = some b44 ∧ kd M b44 = some (.inl 3) ∧ if (iv M b44 9) ≤ v4 then if v2 = 0 then ∃ b49, rv M v0 10 = some b49 ∧ inA M b49 0 v3 ∧ K (iv M b49 (ix v3)) M else K v3 M else ∃ b52, rv M v0 10 = some b52 ∧ inA M b52 0 v4 ∧ ∃ b55, rv M v0 10 = some b55 ∧ inA M b55 0 v3 ∧ if (iv M b52 (ix v4)) ≤ (iv M b55 (ix v3)) then P189 v0 v2 v3 (v4 + 1) M else P189 v0 v2 v4 (v4 + 1) M) → P189 v0 v2 v3 v4 M) →
  f_X1_isIn a1 1 30 M (fun x2 M1 => f_X1_must x2 M1 (fun M3 => kd M3 a0 = some (.inl 1) ∧ f_X1_loots a0 a1 M3 (fun M5 => P17 a0 a1 a2 0 M5)) KX)
set_option maxHeartbeats 4000000 in
theorem m_X1_thieves {l : Launch} (hl : l.stackTraces = false) {G : gG} {a0 : Nat} {a1 : Int32} {a2 : Int32} {M : gM} {K : Int32 → gM → Prop} {KX : Addr → String → gM → Prop} (hf : f_X1_thieves a0 a1 a2 M K KX) : gMet l G yX1_thieves (ws_ yX1_thieves cX1_thieves 6 (some Jvm.ClassFile.FieldType.int)) ({ frames := 30, cells := 1, slots := 6, locals := 671 }) M [.ref a0, .int a1, .int a2] (kI K) KX := by
  refine gm_of hl (ret := (some Jvm.ClassFile.FieldType.int)) rfl (Nat.le_of_ble_eq_true rfl) (fun X h hq => ?_)
  have h : hX l G X cX1_thieves 6 "GlacierMail" 30 671 := h
  have hf := hf
  show V l G X 1 6 M 0 [(0, .ref a0), (1, .int a1), (2, .int a2)] []
  have hf := hf
    (fun v0 v1 v2 v3 M => V l G X 0 0 M 17 [(0, .ref v0), (1, .int v1), (2, .int v2), (3, .int v3)] [])
    (fun v0 v2 v3 M => V l G X 0 0 M 45 [(0, .ref v0), (2, .int v2), (3, .int v3)] [])
    (fun v0 v2 v3 v4 M => V l G X 0 0 M 52 [(0, .ref v0), (2, .int v2), (3, .int v3), (4, .int v4)] [])
    (fun v0 v2 v3 v4 v5 M => V l G X 0 0 M 108 [(0, .ref v0), (2, .int v2), (3, .int v3), (4, .int v4), (5, .int v5)] [])
    (fun v0 v2 v3 v4 v5 M => V l G X 0 0 M 145 [(0, .ref v0), (2, .int v2), (3, .int v3), (4, .int v4), (5, .int v5)] [])
    (fun v0 v2 v3 v4 M => V l G X 0 0 M 189 [(0, .ref v0), (2, .int v2), (3, .int v3), (4, .int v4)] [])
    (by
      intro v0 v1 v2 v3 M hf
      show V l G X 0 0 M 17 [(0, .ref v0), (1, .int v1), (2, .int v2), (3, .int v3)] []
      refine r_iload_n h 3 dX1_thieves_17 rfl rfl ?_
      refine r_bipush (v := 6) h dX1_thieves_18 (by decide) ?_
      refine r_icmp_ge (tgt := 41) h dX1_thieves_20 (by decide) (fun c6 => ?_) (fun c6 => ?_)
      · have hf := ite_t c6 hf
        refine r_iload_n h 1 dX1_thieves_41 rfl rfl ?_
        refine r_iconst (v := 1) h dX1_thieves_42 (by decide) ?_
        refine r_isub h dX1_thieves_43 ?_
        refine r_istore_n (lv' := [(3, .int (v1 - 1)), (0, .ref v0), (1, .int v1), (2, .int v2)]) h dX1_thieves_44 rfl (by decide) rfl ?_
        exact V.sub [1, 3, 0] rfl hf
      · have hf := ite_f c6 hf
        refine r_aload_n h 0 dX1_thieves_23 rfl rfl ?_
        obtain ⟨k7, hf⟩ := hf
        obtain ⟨b8, e9, hf⟩ := hf
        refine g583 h dX1_thieves_24 k7 e9 ?_
        refine r_bipush (v := 6) h dX1_thieves_27 (by decide) ?_
        refine r_iload_n h 1 dX1_thieves_29 rfl rfl ?_
        refine r_imul h dX1_thieves_30 ?_
        refine r_iload_n h 3 dX1_thieves_31 rfl rfl ?_
        refine r_iadd h dX1_thieves_32 ?_
        refine r_iconst (v := 0) h dX1_thieves_33 (by decide) ?_
        obtain ⟨j10, hf⟩ := hf
        refine r_iastore h dX1_thieves_34 j10 ?_
        refine r_goW (fun M11 eM11 => ?_)
        have hf := hf M11 eM11
        refine r_iinc (v := v3 + 1) (lv' := [(3, .int (v3 + 1)), (0, .ref v0), (1, .int v1), (2, .int v2)]) h 3 dX1_thieves_35 rfl rfl (by decide) rfl ?_
        refine r_goto (tgt := 17) h dX1_thieves_38 (by decide) ?_
        exact V.sub [1, 2, 3, 0] rfl hf)
    (by
      intro v0 v2 v3 M hf
      show V l G X 0 0 M 45 [(0, .ref v0), (2, .int v2), (3, .int v3)] []
      refine r_iload_n h 2 dX1_thieves_45 rfl rfl ?_
      refine r_if_lt (tgt := 184) h dX1_thieves_46 (by decide) (fun c12 => ?_) (fun c12 => ?_)
      · have hf := ite_t c12 hf
        refine r_iconst (v := 0) h dX1_thieves_184 (by decide) ?_
        refine r_istore_n (lv' := [(3, .int 0), (0, .ref v0), (2, .int v2)]) h dX1_thieves_185 rfl (by decide) rfl ?_
        refine r_iconst (v := 1) h dX1_thieves_186 (by decide) ?_
        refine r_istore (lv' := [(4, .int 1), (3, .int 0), (0, .ref v0), (2, .int v2)]) h dX1_thieves_187 (by decide) rfl ?_
        exact V.sub [2, 3, 1, 0] rfl hf
      · have hf := ite_f c12 hf
        refine r_iconst (v := 0) h dX1_thieves_49 (by decide) ?_
        refine r_istore (lv' := [(4, .int 0), (0, .ref v0), (2, .int v2), (3, .int v3)]) h dX1_thieves_50 (by decide) rfl ?_
        exact V.sub [1, 2, 3, 0] rfl hf)
    (by
      intro v0 v2 v3 v4 M hf
      show V l G X 0 0 M 52 [(0, .ref v0), (2, .int v2), (3, .int v3), (4, .int v4)] []
      refine r_iload h 3 dX1_thieves_52 rfl ?_
      refine r_aload_n h 0 dX1_thieves_54 rfl rfl ?_
      obtain ⟨k13, hf⟩ := hf
      obtain ⟨b14, e15, hf⟩ := hf
      refine g573 h dX1_thieves_55 k13 e15 ?_
      obtain ⟨k16, hf⟩ := hf
      refine g342 h dX1_thieves_58 k16 ?_
      refine r_icmp_ge (tgt := 178) h dX1_thieves_61 (by decide) (fun c17 => ?_) (fun c17 => ?_)
      · have hf := ite_t c17 hf
        refine r_iinc (v := v3 + (-1)) (lv' := [(3, .int (v3 + (-1))), (0, .ref v0), (2, .int v2), (4, .int v4)]) h 2 dX1_thieves_178 rfl rfl (by decide) rfl ?_
        refine r_goto (tgt := 45) h dX1_thieves_181 (by decide) ?_
        exact V.sub [1, 2, 0] rfl hf
      · have hf := ite_f c17 hf
        refine r_aload_n h 0 dX1_thieves_64 rfl rfl ?_
        obtain ⟨b18, e19, hf⟩ := hf
        refine g583 h dX1_thieves_65 k13 e19 ?_
        refine r_bipush (v := 6) h dX1_thieves_68 (by decide) ?_
        refine r_iload_n h 2 dX1_thieves_70 rfl rfl ?_
        refine r_iconst (v := 1) h dX1_thieves_71 (by decide) ?_
        refine r_iadd h dX1_thieves_72 ?_
        refine r_imul h dX1_thieves_73 ?_
        refine r_iload h 3 dX1_thieves_74 rfl ?_
        refine r_iadd h dX1_thieves_76 ?_
        obtain ⟨j20, hf⟩ := hf
        refine r_iaload h dX1_thieves_77 j20 ?_
        refine r_istore (lv' := [(5, .int (iv M b18 (ix (((6 : Int32) * (v3 + 1)) + v4)))), (0, .ref v0), (2, .int v2), (3, .int v3), (4, .int v4)]) h dX1_thieves_78 (by decide) rfl ?_
        refine r_iload h 4 dX1_thieves_80 rfl ?_
        refine r_if_le (tgt := 108) h dX1_thieves_82 (by decide) (fun c21 => ?_) (fun c21 => ?_)
        · have hf := ite_t c21 hf
          exact V.sub [1, 2, 3, 4, 0] rfl hf
        · have hf := ite_f c21 hf
          refine r_iload h 0 dX1_thieves_85 rfl ?_
          refine r_aload_n h 1 dX1_thieves_87 rfl rfl ?_
          obtain ⟨b22, e23, hf⟩ := hf
          refine g583 h dX1_thieves_88 k13 e23 ?_
          refine r_bipush (v := 6) h dX1_thieves_91 (by decide) ?_
          refine r_iload_n h 3 dX1_thieves_93 rfl rfl ?_
          refine r_iconst (v := 1) h dX1_thieves_94 (by decide) ?_
          refine r_iadd h dX1_thieves_95 ?_
          refine r_imul h dX1_thieves_96 ?_
          refine r_iload h 4 dX1_thieves_97 rfl ?_
          refine r_iadd h dX1_thieves_99 ?_
          refine r_iconst (v := 1) h dX1_thieves_100 (by decide) ?_
          refine r_isub h dX1_thieves_101 ?_
          obtain ⟨j24, hf⟩ := hf
          refine r_iaload h dX1_thieves_102 j24 ?_
          refine r_mmax h q1426 q732 q165 q733 dX1_thieves_103 (by decide) (by decide) (Nat.le_of_ble_eq_true rfl) ?_
          refine r_nam (fun x25 ex25 => ?_)
          have hf := hf x25 ex25
          refine r_istore (lv' := [(5, .int x25), (0, .ref v0), (2, .int v2), (3, .int v3), (4, .int v4)]) h dX1_thieves_106 (by decide) rfl ?_
          exact V.sub [1, 2, 3, 4, 0] rfl hf)
    (by
      intro v0 v2 v3 v4 v5 M hf
      show V l G X 0 0 M 108 [(0, .ref v0), (2, .int v2), (3, .int v3), (4, .int v4), (5, .int v5)] []
      refine r_iload h 3 dX1_thieves_108 rfl ?_
      refine r_iconst (v := 1) h dX1_thieves_110 (by decide) ?_
      refine r_iadd h dX1_thieves_111 ?_
      refine r_aload_n h 0 dX1_thieves_112 rfl rfl ?_
      obtain ⟨k26, hf⟩ := hf
      obtain ⟨b27, e28, hf⟩ := hf
      refine g573 h dX1_thieves_113 k26 e28 ?_
      obtain ⟨k29, hf⟩ := hf
      refine g342 h dX1_thieves_116 k29 ?_
      refine r_icmp_ge (tgt := 145) h dX1_thieves_119 (by decide) (fun c30 => ?_) (fun c30 => ?_)
      · have hf := ite_t c30 hf
        exact V.sub [0, 1, 2, 3, 4] rfl hf
      · have hf := ite_f c30 hf
        refine r_iload h 4 dX1_thieves_122 rfl ?_
        refine r_aload_n h 0 dX1_thieves_124 rfl rfl ?_
        obtain ⟨b31, e32, hf⟩ := hf
        refine g583 h dX1_thieves_125 k26 e32 ?_
        refine r_bipush (v := 6) h dX1_thieves_128 (by decide) ?_
        refine r_iload_n h 2 dX1_thieves_130 rfl rfl ?_
        refine r_iconst (v := 1) h dX1_thieves_131 (by decide) ?_
        refine r_iadd h dX1_thieves_132 ?_
        refine r_imul h dX1_thieves_133 ?_
        refine r_iload h 3 dX1_thieves_134 rfl ?_
        refine r_iadd h dX1_thieves_136 ?_
        refine r_iconst (v := 1) h dX1_thieves_137 (by decide) ?_
        refine r_iadd h dX1_thieves_138 ?_
        obtain ⟨j33, hf⟩ := hf
        refine r_iaload h dX1_thieves_139 j33 ?_
        refine r_mmax h q1426 q732 q165 q733 dX1_thieves_140 (by decide) (by decide) (Nat.le_of_ble_eq_true rfl) ?_
        refine r_nam (fun x34 ex34 => ?_)
        have hf := hf x34 ex34
        refine r_istore (lv' := [(5, .int x34), (0, .ref v0), (2, .int v2), (3, .int v3), (4, .int v4)]) h dX1_thieves_143 (by decide) rfl ?_
        exact V.sub [1, 2, 3, 4, 0] rfl hf)
    (by
      intro v0 v2 v3 v4 v5 M hf
      show V l G X 0 0 M 145 [(0, .ref v0), (2, .int v2), (3, .int v3), (4, .int v4), (5, .int v5)] []
      refine r_aload_n h 0 dX1_thieves_145 rfl rfl ?_
      obtain ⟨k35, hf⟩ := hf
      obtain ⟨b36, e37, hf⟩ := hf
      refine g583 h dX1_thieves_146 k35 e37 ?_
      refine r_bipush (v := 6) h dX1_thieves_149 (by decide) ?_
      refine r_iload_n h 2 dX1_thieves_151 rfl rfl ?_
      refine r_imul h dX1_thieves_152 ?_
      refine r_iload h 3 dX1_thieves_153 rfl ?_
      refine r_iadd h dX1_thieves_155 ?_
      refine r_iload h 4 dX1_thieves_156 rfl ?_
      refine r_aload_n h 0 dX1_thieves_158 rfl rfl ?_
      obtain ⟨b38, e39, hf⟩ := hf
      refine g582 h dX1_thieves_159 k35 e39 ?_
      refine r_bipush (v := 6) h dX1_thieves_162 (by decide) ?_
      refine r_iload_n h 2 dX1_thieves_164 rfl rfl ?_
      refine r_imul h dX1_thieves_165 ?_
      refine r_iload h 3 dX1_thieves_166 rfl ?_
      refine r_iadd h dX1_thieves_168 ?_
      obtain ⟨j40, hf⟩ := hf
      refine r_iaload h dX1_thieves_169 j40 ?_
      refine r_iadd h dX1_thieves_170 ?_
      obtain ⟨j41, hf⟩ := hf
      refine r_iastore h dX1_thieves_171 j41 ?_
      refine r_goW (fun M42 eM42 => ?_)
      have hf := hf M42 eM42
      refine r_iinc (v := v4 + 1) (lv' := [(4, .int (v4 + 1)), (0, .ref v0), (2, .int v2), (3, .int v3), (5, .int v5)]) h 3 dX1_thieves_172 rfl rfl (by decide) rfl ?_
      refine r_goto (tgt := 52) h dX1_thieves_175 (by decide) ?_
      exact V.sub [1, 2, 3, 0] rfl hf)
    (by
      intro v0 v2 v3 v4 M hf
      show V l G X 0 0 M 189 [(0, .ref v0), (2, .int v2), (3, .int v3), (4, .int v4)] []
      refine r_iload h 3 dX1_thieves_189 rfl ?_
      refine r_aload_n h 0 dX1_thieves_191 rfl rfl ?_
      obtain ⟨k43, hf⟩ := hf
      obtain ⟨b44, e45, hf⟩ := hf
      refine g573 h dX1_thieves_192 k43 e45 ?_
      obtain ⟨k46, hf⟩ := hf
      refine g342 h dX1_thieves_195 k46 ?_
      refine r_icmp_ge (tgt := 226) h dX1_thieves_198 (by decide) (fun c47 => ?_) (fun c47 => ?_)
      · have hf := ite_t c47 hf
        refine r_iload_n h 1 dX1_thieves_226 rfl rfl ?_
        refine r_if_eq (tgt := 234) h dX1_thieves_227 (by decide) (fun c48 => ?_) (fun c48 => ?_)
        · have hf := ite_t c48 hf
          refine r_aload_n h 0 dX1_thieves_234 rfl rfl ?_
          obtain ⟨b49, e50, hf⟩ := hf
          refine g583 h dX1_thieves_235 k43 e50 ?_
          refine r_iload_n h 2 dX1_thieves_238 rfl rfl ?_
          obtain ⟨j51, hf⟩ := hf
          refine r_iaload h dX1_thieves_239 j51 ?_
          exact r_ireturn h hq dX1_thieves_240 ⟨_, rfl, hf⟩
        · have hf := ite_f c48 hf
          refine r_iload_n h 2 dX1_thieves_230 rfl rfl ?_
          refine r_goto (tgt := 240) h dX1_thieves_231 (by decide) ?_
          exact r_ireturn h hq dX1_thieves_240 ⟨_, rfl, hf⟩
      · have hf := ite_f c47 hf
        refine r_aload_n h 0 dX1_thieves_201 rfl rfl ?_
        obtain ⟨b52, e53, hf⟩ := hf
        refine g583 h dX1_thieves_202 k43 e53 ?_
        refine r_iload h 3 dX1_thieves_205 rfl ?_
        obtain ⟨j54, hf⟩ := hf
        refine r_iaload h dX1_thieves_207 j54 ?_
        refine r_aload_n h 0 dX1_thieves_208 rfl rfl ?_
        obtain ⟨b55, e56, hf⟩ := hf
        refine g583 h dX1_thieves_209 k43 e56 ?_
        refine r_iload_n h 2 dX1_thieves_212 rfl rfl ?_
        obtain ⟨j57, hf⟩ := hf
        refine r_iaload h dX1_thieves_213 j57 ?_
        refine r_icmp_le (tgt := 220) h dX1_thieves_214 (by decide) (fun c58 => ?_) (fun c58 => ?_)
        · have hf := ite_t c58 hf
          refine r_iinc (v := v4 + 1) (lv' := [(4, .int (v4 + 1)), (0, .ref v0), (2, .int v2), (3, .int v3)]) h 3 dX1_thieves_220 rfl rfl (by decide) rfl ?_
          refine r_goto (tgt := 189) h dX1_thieves_223 (by decide) ?_
          exact V.sub [1, 2, 3, 0] rfl hf
        · have hf := ite_f c58 hf
          refine r_iload h 3 dX1_thieves_217 rfl ?_
          refine r_istore_n (lv' := [(3, .int v4), (0, .ref v0), (2, .int v2), (4, .int v4)]) h dX1_thieves_219 rfl (by decide) rfl ?_
          refine r_iinc (v := v4 + 1) (lv' := [(4, .int (v4 + 1)), (3, .int v4), (0, .ref v0), (2, .int v2)]) h 3 dX1_thieves_220 rfl rfl (by decide) rfl ?_
          refine r_goto (tgt := 189) h dX1_thieves_223 (by decide) ?_
          exact V.sub [2, 3, 1, 0] rfl hf)
  refine r_iload_n h 1 dX1_thieves_0 rfl rfl ?_
  refine r_iconst (v := 1) h dX1_thieves_1 (by decide) ?_
  refine r_bipush (v := 30) h dX1_thieves_2 (by decide) ?_
  refine c634 hl h dX1_thieves_4 hf (Nat.le_of_ble_eq_true rfl) (by decide) (by decide) (fun x2 M1 hf => ?_)
  refine c1147 hl h dX1_thieves_7 hf (Nat.le_of_ble_eq_true rfl) (by decide) (by decide) (by decide) (by decide) (fun M3 hf => ?_) (fun q9 E9 M9 hf => r_out h hq hf)
  refine r_aload_n h 0 dX1_thieves_10 rfl rfl ?_
  refine r_iload_n h 1 dX1_thieves_11 rfl rfl ?_
  obtain ⟨k4, hf⟩ := hf
  refine c1522 hl h dX1_thieves_12 k4 hf (Nat.le_of_ble_eq_true rfl) (by decide) (by decide) (fun M5 hf => ?_)
  refine r_iconst (v := 0) h dX1_thieves_15 (by decide) ?_
  refine r_istore_n (lv' := [(3, .int 0), (0, .ref a0), (1, .int a1), (2, .int a2)]) h dX1_thieves_16 rfl (by decide) rfl ?_
  exact V.sub [1, 2, 3, 0] rfl hf
theorem c1518 {l : Launch} {G : gG} {X : gX} {cc : ByteArray} {nL F L bc bs pc : Nat} {M : gM} {lv : List (Nat × Value)} {rest : List Value} {a0 : Nat} {a1 : Int32} {a2 : Int32} {K : Int32 → gM → Prop} {KX : Addr → String → gM → Prop} (hl : l.stackTraces = false) (h : hX l G X cc nL "GlacierMailLaw" F L) (d : decode cc pc = .ok (.invokevirtual 107, 3)) (hk : kd M a0 = some (.inl 1)) (hf : f_X1_thieves a0 a1 a2 M K KX) (hst : (rest.map fun v => v.category).sum ≤ 8) (hF : 31 ≤ F) (hL : 696 ≤ L) (h1 : 1 ≤ bc) (h2 : 6 ≤ bs) (kk : ∀ x M1, K x M1 → V l G X (bc - 1) (bs - 6) M1 (pc + 3) lv (.int x :: rest)) (kx : ∀ q E M1, KX q E M1 → VX l G X (bc - 1) (bs - 6) M1 pc lv q E) : V l G X bc bs M pc lv (.int a2 :: .int a1 :: .ref a0 :: rest) := r_callV (n := 2) (As := [.int a1, .int a2]) h (m_X1_thieves hl hf) 1 rfl hk rfl ⟨by decide, by decide, by decide +kernel⟩ d q1518 q1519 q1520 q135 q1521 rfl rfl hst hF hL h1 h2 (kI_go kk) kx
def f_X0_thieves (a0 : Nat) (a1 : Int32) (a2 : Int32) (a3 : Nat) (M : gM) (K : Int32 → gM → Prop) : Prop :=
  kd M a0 = some (.inl 1) ∧ f_X1_thieves a0 a1 a2 M (fun x3 M2 => inA M2 a3 2 0 ∧ ∀ M5, M5 = sJ M2 a3 (ix 0) (x3.toInt64) → K 0 M5) (fun q9 E9 M9 => (E9 = "java/lang/IllegalArgumentException" ∧ K 1 M9))
set_option maxHeartbeats 4000000 in
theorem m_X0_thieves {l : Launch} (hl : l.stackTraces = false) {G : gG} {a0 : Nat} {a1 : Int32} {a2 : Int32} {a3 : Nat} {M : gM} {K : Int32 → gM → Prop} (hf : f_X0_thieves a0 a1 a2 a3 M K) : gMet l G yX0_thieves (wsW_ yX0_thieves cX0_thieves 5 (some Jvm.ClassFile.FieldType.int) [(0, 10, 13, 13)]) ({ frames := 31, cells := 1, slots := 6, locals := 696 }) M [.ref a0, .int a1, .int a2, .ref a3] (kI K) kN := by
  refine gm_ofH hl (ret := (some Jvm.ClassFile.FieldType.int)) rfl (Nat.le_of_ble_eq_true rfl) (fun X h hq => ?_)
  have h : hX l G X cX0_thieves 5 "GlacierMailLaw" 31 696 := h
  have hf := hf
  show V l G X 1 6 M 0 [(0, .ref a0), (1, .int a1), (2, .int a2), (3, .ref a3)] []
  unfold f_X0_thieves at hf
  refine r_aload_n h 3 dX0_thieves_0 rfl rfl ?_
  refine r_iconst (v := 0) h dX0_thieves_1 (by decide) ?_
  refine r_aload_n h 0 dX0_thieves_2 rfl rfl ?_
  refine r_iload_n h 1 dX0_thieves_3 rfl rfl ?_
  refine r_iload_n h 2 dX0_thieves_4 rfl rfl ?_
  obtain ⟨k1, hf⟩ := hf
  refine c1518 hl h dX0_thieves_5 k1 hf (Nat.le_of_ble_eq_true rfl) (by decide) (by decide) (by decide) (by decide) (fun x3 M2 hf => ?_) (fun q9 E9 M9 hf => ?_)
  · skip
    refine r_i2l h dX0_thieves_8 ?_
    obtain ⟨j4, hf⟩ := hf
    refine r_lastore h dX0_thieves_9 j4 ?_
    refine r_goW (fun M5 eM5 => ?_)
    have hf := hf M5 eM5
    refine r_goto (tgt := 17) h dX0_thieves_10 (by decide) ?_
    refine r_iconst (v := 0) h dX0_thieves_17 (by decide) ?_
    exact r_ireturn h hq dX0_thieves_18 ⟨_, rfl, hf⟩
  · rcases hf with ⟨rfl, hf⟩
    · refine r_catch h hq 0 (E := "java/lang/IllegalArgumentException") (nm := "java/lang/IllegalArgumentException") rfl (fun z hz => nomatch hz) (by decide) (by decide) q822 (List.mem_of_getElem? (i := 5) rfl) ?_
      refine r_astore (lv' := [(4, .ref q9), (0, .ref a0), (1, .int a1), (2, .int a2), (3, .ref a3)]) h dX0_thieves_13 (by decide) rfl ?_
      refine r_iconst (v := 1) h dX0_thieves_15 (by decide) ?_
      exact r_ireturn h hq dX0_thieves_16 ⟨_, rfl, hf⟩
theorem c1515 {l : Launch} {G : gG} {X : gX} {cc : ByteArray} {nL F L bc bs pc : Nat} {M : gM} {lv : List (Nat × Value)} {rest : List Value} {a0 : Nat} {a1 : Int32} {a2 : Int32} {a3 : Nat} {K : Int32 → gM → Prop} (hl : l.stackTraces = false) (h : hX l G X cc nL "GlacierMailLaw" F L) (d : decode cc pc = .ok (.invokestatic 258, 3)) (hf : f_X0_thieves a0 a1 a2 a3 M K) (hst : (rest.map fun v => v.category).sum ≤ 8) (hF : 32 ≤ F) (hL : 720 ≤ L) (h1 : 1 ≤ bc) (h2 : 6 ≤ bs) (kk : ∀ x M1, K x M1 → V l G X (bc - 1) (bs - 6) M1 (pc + 3) lv (.int x :: rest)) : V l G X bc bs M pc lv (.ref a3 :: .int a2 :: .int a1 :: .ref a0 :: rest) := r_callSH (n := 4) (As := [.ref a0, .int a1, .int a2, .ref a3]) h (m_X0_thieves hl hf) ⟨by decide, by decide, by decide +kernel⟩ d q1515 q1516 q134 q1517 rfl rfl hst hF hL h1 h2 (kI_go kk) kN_go
def f_X1_watchman (a0 : Nat) (a1 : Int32) (a2 : Int32) (M : gM) (K : Int32 → gM → Prop) (KX : Addr → String → gM → Prop) : Prop :=
  ∀ P24 : Nat → Int32 → Int32 → Int32 → Int32 → Int32 → gM → Prop,
  ∀ P42 : Nat → Int32 → Int32 → Int32 → Int32 → Int32 → Int32 → Int32 → gM → Prop,
  ∀ P60 : Nat → Int32 → Int32 → Int32 → Int32 → Int32 → Int32 → Int32 → Int32 → Int32 → gM → Prop,
  (∀ (v0 : Nat) (v1 : Int32) (v2 : Int32) (v3 : Int32) (v4 : Int32) (v5 : Int32) (M : gM), (kd M v0 = some (.inl 1) ∧ ∃ b7, rv M v0 1 = some b7 ∧ kd M b7 = some (.inl 3) ∧ if (iv M b7 9) ≤ v5 then if v2 = 0 then K v3 M else K v4 M else P42 v0 v1 v2 v3 v4 v5 0 0 M) → P24 v0 v1 v2 v3 v4 v5 M) →
  (∀ (v0 : Nat) (v1 : Int32) (v2 : Int32) (v3 : Int32) (v4 : Int32) (v5 : Int32) (v6 : Int32) (v7 : Int32) (M : gM), (kd M v0 = some (.inl 1) ∧ ∃ b13, rv M v0 1 = some b13 ∧ kd M b13 = some (.inl 3) ∧ if (iv M b13 9) ≤ v7 then if v6 < v4 then P24 v0 v1 v2 v5 v6 (v5 + 1) M else P24 v0 v1 v2 v3 v4 (v5 + 1) M else P60 v0 v1 v2 v3 v4 v5 v6 v7 0 0 M) → P42 v0 v1 v2 v3 v4 v5 v6 v7 M) →
  (∀ (v0 : Nat) (v1 : Int32) (v2 : Int32) (v3 : Int32) (v4 : Int32) (v5 : Int32) (v6 : Int32) (v7 : Int32) (v8 : Int32) (v9 : Int32) (M : gM), (if v1 ≤ v9 then ∀ x19, x19 = (if v6 < v8 then v8 else v6) → P42 v0 v1 v2 v3 v4 v5 x19 (v7 + 1) M else if v7 = v5 then ∀ x21, x21 = (if v6 < v8 then v8 else v6) → P42 v0 v1 v2 v3 v4 v5 x21 (v7 + 1) M else kd M v0 = some (.inl 1) ∧ ∃ b23, rv M v0 9 = some b23 ∧ inA M b23 0 (((6 : Int32) * v9) + v7) ∧ P60 v0 v1 v2 v3 v4 v5 v6 v7 (v8 + (iv M b23 (ix (((6 : Int32) * v9) + v7)))) (v9 + 1) M) → P60 v0 v1 v2 v3 v4 v5 v6 v7 v8 v9 M) →
  f_X1_isIn a1 1 30 M (fun x2 M1 => f_X1_must x2 M1 (fun M3 => kd M3 a0 = some (.inl 1) ∧ f_X1_loots a0 a1 M3 (fun M5 => P24 a0 a1 a2 (-1) 2147483647 0 M5)) KX)
set_option maxHeartbeats 4000000 in
theorem m_X1_watchman {l : Launch} (hl : l.stackTraces = false) {G : gG} {a0 : Nat} {a1 : Int32} {a2 : Int32} {M : gM} {K : Int32 → gM → Prop} {KX : Addr → String → gM → Prop} (hf : f_X1_watchman a0 a1 a2 M K KX) : gMet l G yX1_watchman (ws_ yX1_watchman cX1_watchman 10 (some Jvm.ClassFile.FieldType.int)) ({ frames := 30, cells := 1, slots := 6, locals := 671 }) M [.ref a0, .int a1, .int a2] (kI K) KX := by
  refine gm_of hl (ret := (some Jvm.ClassFile.FieldType.int)) rfl (Nat.le_of_ble_eq_true rfl) (fun X h hq => ?_)
  have h : hX l G X cX1_watchman 10 "GlacierMail" 30 671 := h
  have hf := hf
  show V l G X 1 6 M 0 [(0, .ref a0), (1, .int a1), (2, .int a2)] []
  have hf := hf
    (fun v0 v1 v2 v3 v4 v5 M => V l G X 0 0 M 24 [(0, .ref v0), (1, .int v1), (2, .int v2), (3, .int v3), (4, .int v4), (5, .int v5)] [])
    (fun v0 v1 v2 v3 v4 v5 v6 v7 M => V l G X 0 0 M 42 [(0, .ref v0), (1, .int v1), (2, .int v2), (3, .int v3), (4, .int v4), (5, .int v5), (6, .int v6), (7, .int v7)] [])
    (fun v0 v1 v2 v3 v4 v5 v6 v7 v8 v9 M => V l G X 0 0 M 60 [(0, .ref v0), (1, .int v1), (2, .int v2), (3, .int v3), (4, .int v4), (5, .int v5), (6, .int v6), (7, .int v7), (8, .int v8), (9, .int v9)] [])
    (by
      intro v0 v1 v2 v3 v4 v5 M hf
      show V l G X 0 0 M 24 [(0, .ref v0), (1, .int v1), (2, .int v2), (3, .int v3), (4, .int v4), (5, .int v5)] []
      refine r_iload h 5 dX1_watchman_24 rfl ?_
      refine r_aload_n h 0 dX1_watchman_26 rfl rfl ?_
      obtain ⟨k6, hf⟩ := hf
      obtain ⟨b7, e8, hf⟩ := hf
      refine g573 h dX1_watchman_27 k6 e8 ?_
      obtain ⟨k9, hf⟩ := hf
      refine g342 h dX1_watchman_30 k9 ?_
      refine r_icmp_ge (tgt := 135) h dX1_watchman_33 (by decide) (fun c10 => ?_) (fun c10 => ?_)
      · have hf := ite_t c10 hf
        refine r_iload_n h 2 dX1_watchman_135 rfl rfl ?_
        refine r_if_eq (tgt := 144) h dX1_watchman_136 (by decide) (fun c11 => ?_) (fun c11 => ?_)
        · have hf := ite_t c11 hf
          refine r_iload_n h 3 dX1_watchman_144 rfl rfl ?_
          exact r_ireturn h hq dX1_watchman_145 ⟨_, rfl, hf⟩
        · have hf := ite_f c11 hf
          refine r_iload h 4 dX1_watchman_139 rfl ?_
          refine r_goto (tgt := 145) h dX1_watchman_141 (by decide) ?_
          exact r_ireturn h hq dX1_watchman_145 ⟨_, rfl, hf⟩
      · have hf := ite_f c10 hf
        refine r_iconst (v := 0) h dX1_watchman_36 (by decide) ?_
        refine r_istore (lv' := [(6, .int 0), (0, .ref v0), (1, .int v1), (2, .int v2), (3, .int v3), (4, .int v4), (5, .int v5)]) h dX1_watchman_37 (by decide) rfl ?_
        refine r_iconst (v := 0) h dX1_watchman_39 (by decide) ?_
        refine r_istore (lv' := [(7, .int 0), (6, .int 0), (0, .ref v0), (1, .int v1), (2, .int v2), (3, .int v3), (4, .int v4), (5, .int v5)]) h dX1_watchman_40 (by decide) rfl ?_
        exact V.sub [2, 3, 4, 5, 6, 7, 1, 0] rfl hf)
    (by
      intro v0 v1 v2 v3 v4 v5 v6 v7 M hf
      show V l G X 0 0 M 42 [(0, .ref v0), (1, .int v1), (2, .int v2), (3, .int v3), (4, .int v4), (5, .int v5), (6, .int v6), (7, .int v7)] []
      refine r_iload h 7 dX1_watchman_42 rfl ?_
      refine r_aload_n h 0 dX1_watchman_44 rfl rfl ?_
      obtain ⟨k12, hf⟩ := hf
      obtain ⟨b13, e14, hf⟩ := hf
      refine g573 h dX1_watchman_45 k12 e14 ?_
      obtain ⟨k15, hf⟩ := hf
      refine g342 h dX1_watchman_48 k15 ?_
      refine r_icmp_ge (tgt := 112) h dX1_watchman_51 (by decide) (fun c16 => ?_) (fun c16 => ?_)
      · have hf := ite_t c16 hf
        refine r_iload h 6 dX1_watchman_112 rfl ?_
        refine r_iload h 4 dX1_watchman_114 rfl ?_
        refine r_icmp_lt (tgt := 122) h dX1_watchman_116 (by decide) (fun c17 => ?_) (fun c17 => ?_)
        · have hf := ite_t c17 hf
          refine r_iload h 6 dX1_watchman_122 rfl ?_
          refine r_istore (lv' := [(4, .int v6), (0, .ref v0), (1, .int v1), (2, .int v2), (3, .int v3), (5, .int v5), (6, .int v6), (7, .int v7)]) h dX1_watchman_124 (by decide) rfl ?_
          refine r_iload h 5 dX1_watchman_126 rfl ?_
          refine r_istore_n (lv' := [(3, .int v5), (4, .int v6), (0, .ref v0), (1, .int v1), (2, .int v2), (5, .int v5), (6, .int v6), (7, .int v7)]) h dX1_watchman_128 rfl (by decide) rfl ?_
          refine r_iinc (v := v5 + 1) (lv' := [(5, .int (v5 + 1)), (3, .int v5), (4, .int v6), (0, .ref v0), (1, .int v1), (2, .int v2), (6, .int v6), (7, .int v7)]) h 5 dX1_watchman_129 rfl rfl (by decide) rfl ?_
          refine r_goto (tgt := 24) h dX1_watchman_132 (by decide) ?_
          exact V.sub [3, 4, 5, 1, 2, 0] rfl hf
        · have hf := ite_f c17 hf
          refine r_goto (tgt := 129) h dX1_watchman_119 (by decide) ?_
          refine r_iinc (v := v5 + 1) (lv' := [(5, .int (v5 + 1)), (0, .ref v0), (1, .int v1), (2, .int v2), (3, .int v3), (4, .int v4), (6, .int v6), (7, .int v7)]) h 5 dX1_watchman_129 rfl rfl (by decide) rfl ?_
          refine r_goto (tgt := 24) h dX1_watchman_132 (by decide) ?_
          exact V.sub [1, 2, 3, 4, 5, 0] rfl hf
      · have hf := ite_f c16 hf
        refine r_iconst (v := 0) h dX1_watchman_54 (by decide) ?_
        refine r_istore (lv' := [(8, .int 0), (0, .ref v0), (1, .int v1), (2, .int v2), (3, .int v3), (4, .int v4), (5, .int v5), (6, .int v6), (7, .int v7)]) h dX1_watchman_55 (by decide) rfl ?_
        refine r_iconst (v := 0) h dX1_watchman_57 (by decide) ?_
        refine r_istore (lv' := [(9, .int 0), (8, .int 0), (0, .ref v0), (1, .int v1), (2, .int v2), (3, .int v3), (4, .int v4), (5, .int v5), (6, .int v6), (7, .int v7)]) h dX1_watchman_58 (by decide) rfl ?_
        exact V.sub [2, 3, 4, 5, 6, 7, 8, 9, 1, 0] rfl hf)
    (by
      intro v0 v1 v2 v3 v4 v5 v6 v7 v8 v9 M hf
      show V l G X 0 0 M 60 [(0, .ref v0), (1, .int v1), (2, .int v2), (3, .int v3), (4, .int v4), (5, .int v5), (6, .int v6), (7, .int v7), (8, .int v8), (9, .int v9)] []
      refine r_iload h 9 dX1_watchman_60 rfl ?_
      refine r_iload_n h 1 dX1_watchman_62 rfl rfl ?_
      refine r_icmp_ge (tgt := 97) h dX1_watchman_63 (by decide) (fun c18 => ?_) (fun c18 => ?_)
      · have hf := ite_t c18 hf
        refine r_iload h 6 dX1_watchman_97 rfl ?_
        refine r_iload h 8 dX1_watchman_99 rfl ?_
        refine r_mmax h q1426 q732 q165 q733 dX1_watchman_101 (by decide) (by decide) (Nat.le_of_ble_eq_true rfl) ?_
        refine r_nam (fun x19 ex19 => ?_)
        have hf := hf x19 ex19
        refine r_istore (lv' := [(6, .int x19), (0, .ref v0), (1, .int v1), (2, .int v2), (3, .int v3), (4, .int v4), (5, .int v5), (7, .int v7), (8, .int v8), (9, .int v9)]) h dX1_watchman_104 (by decide) rfl ?_
        refine r_iinc (v := v7 + 1) (lv' := [(7, .int (v7 + 1)), (6, .int x19), (0, .ref v0), (1, .int v1), (2, .int v2), (3, .int v3), (4, .int v4), (5, .int v5), (8, .int v8), (9, .int v9)]) h 7 dX1_watchman_106 rfl rfl (by decide) rfl ?_
        refine r_goto (tgt := 42) h dX1_watchman_109 (by decide) ?_
        exact V.sub [2, 3, 4, 5, 6, 7, 1, 0] rfl hf
      · have hf := ite_f c18 hf
        refine r_iload h 7 dX1_watchman_66 rfl ?_
        refine r_iload h 5 dX1_watchman_68 rfl ?_
        refine r_icmp_eq (tgt := 97) h dX1_watchman_70 (by decide) (fun c20 => ?_) (fun c20 => ?_)
        · have hf := ite_t c20 hf
          refine r_iload h 6 dX1_watchman_97 rfl ?_
          refine r_iload h 8 dX1_watchman_99 rfl ?_
          refine r_mmax h q1426 q732 q165 q733 dX1_watchman_101 (by decide) (by decide) (Nat.le_of_ble_eq_true rfl) ?_
          refine r_nam (fun x21 ex21 => ?_)
          have hf := hf x21 ex21
          refine r_istore (lv' := [(6, .int x21), (0, .ref v0), (1, .int v1), (2, .int v2), (3, .int v3), (4, .int v4), (5, .int v5), (7, .int v7), (8, .int v8), (9, .int v9)]) h dX1_watchman_104 (by decide) rfl ?_
          refine r_iinc (v := v7 + 1) (lv' := [(7, .int (v7 + 1)), (6, .int x21), (0, .ref v0), (1, .int v1), (2, .int v2), (3, .int v3), (4, .int v4), (5, .int v5), (8, .int v8), (9, .int v9)]) h 7 dX1_watchman_106 rfl rfl (by decide) rfl ?_
          refine r_goto (tgt := 42) h dX1_watchman_109 (by decide) ?_
          exact V.sub [2, 3, 4, 5, 6, 7, 1, 0] rfl hf
        · have hf := ite_f c20 hf
          refine r_iload h 8 dX1_watchman_73 rfl ?_
          refine r_aload_n h 0 dX1_watchman_75 rfl rfl ?_
          obtain ⟨k22, hf⟩ := hf
          obtain ⟨b23, e24, hf⟩ := hf
          refine g582 h dX1_watchman_76 k22 e24 ?_
          refine r_bipush (v := 6) h dX1_watchman_79 (by decide) ?_
          refine r_iload h 9 dX1_watchman_81 rfl ?_
          refine r_imul h dX1_watchman_83 ?_
          refine r_iload h 7 dX1_watchman_84 rfl ?_
          refine r_iadd h dX1_watchman_86 ?_
          obtain ⟨j25, hf⟩ := hf
          refine r_iaload h dX1_watchman_87 j25 ?_
          refine r_iadd h dX1_watchman_88 ?_
          refine r_istore (lv' := [(8, .int (v8 + (iv M b23 (ix (((6 : Int32) * v9) + v7))))), (0, .ref v0), (1, .int v1), (2, .int v2), (3, .int v3), (4, .int v4), (5, .int v5), (6, .int v6), (7, .int v7), (9, .int v9)]) h dX1_watchman_89 (by decide) rfl ?_
          refine r_iinc (v := v9 + 1) (lv' := [(9, .int (v9 + 1)), (8, .int (v8 + (iv M b23 (ix (((6 : Int32) * v9) + v7))))), (0, .ref v0), (1, .int v1), (2, .int v2), (3, .int v3), (4, .int v4), (5, .int v5), (6, .int v6), (7, .int v7)]) h 9 dX1_watchman_91 rfl rfl (by decide) rfl ?_
          refine r_goto (tgt := 60) h dX1_watchman_94 (by decide) ?_
          exact V.sub [2, 3, 4, 5, 6, 7, 8, 9, 1, 0] rfl hf)
  refine r_iload_n h 1 dX1_watchman_0 rfl rfl ?_
  refine r_iconst (v := 1) h dX1_watchman_1 (by decide) ?_
  refine r_bipush (v := 30) h dX1_watchman_2 (by decide) ?_
  refine c634 hl h dX1_watchman_4 hf (Nat.le_of_ble_eq_true rfl) (by decide) (by decide) (fun x2 M1 hf => ?_)
  refine c1147 hl h dX1_watchman_7 hf (Nat.le_of_ble_eq_true rfl) (by decide) (by decide) (by decide) (by decide) (fun M3 hf => ?_) (fun q9 E9 M9 hf => r_out h hq hf)
  refine r_aload_n h 0 dX1_watchman_10 rfl rfl ?_
  refine r_iload_n h 1 dX1_watchman_11 rfl rfl ?_
  obtain ⟨k4, hf⟩ := hf
  refine c1522 hl h dX1_watchman_12 k4 hf (Nat.le_of_ble_eq_true rfl) (by decide) (by decide) (fun M5 hf => ?_)
  refine r_iconst (v := (-1)) h dX1_watchman_15 (by decide) ?_
  refine r_istore_n (lv' := [(3, .int (-1)), (0, .ref a0), (1, .int a1), (2, .int a2)]) h dX1_watchman_16 rfl (by decide) rfl ?_
  refine r_ldc (v := 2147483647) h dX1_watchman_17 q743 ?_
  refine r_istore (lv' := [(4, .int 2147483647), (3, .int (-1)), (0, .ref a0), (1, .int a1), (2, .int a2)]) h dX1_watchman_19 (by decide) rfl ?_
  refine r_iconst (v := 0) h dX1_watchman_21 (by decide) ?_
  refine r_istore (lv' := [(5, .int 0), (4, .int 2147483647), (3, .int (-1)), (0, .ref a0), (1, .int a1), (2, .int a2)]) h dX1_watchman_22 (by decide) rfl ?_
  exact V.sub [3, 4, 5, 2, 1, 0] rfl hf
theorem c1529 {l : Launch} {G : gG} {X : gX} {cc : ByteArray} {nL F L bc bs pc : Nat} {M : gM} {lv : List (Nat × Value)} {rest : List Value} {a0 : Nat} {a1 : Int32} {a2 : Int32} {K : Int32 → gM → Prop} {KX : Addr → String → gM → Prop} (hl : l.stackTraces = false) (h : hX l G X cc nL "GlacierMailLaw" F L) (d : decode cc pc = .ok (.invokevirtual 111, 3)) (hk : kd M a0 = some (.inl 1)) (hf : f_X1_watchman a0 a1 a2 M K KX) (hst : (rest.map fun v => v.category).sum ≤ 8) (hF : 31 ≤ F) (hL : 700 ≤ L) (h1 : 1 ≤ bc) (h2 : 6 ≤ bs) (kk : ∀ x M1, K x M1 → V l G X (bc - 1) (bs - 6) M1 (pc + 3) lv (.int x :: rest)) (kx : ∀ q E M1, KX q E M1 → VX l G X (bc - 1) (bs - 6) M1 pc lv q E) : V l G X bc bs M pc lv (.int a2 :: .int a1 :: .ref a0 :: rest) := r_callV (n := 2) (As := [.int a1, .int a2]) h (m_X1_watchman hl hf) 1 rfl hk rfl ⟨by decide, by decide, by decide +kernel⟩ d q1529 q1530 q1531 q135 q1532 rfl rfl hst hF hL h1 h2 (kI_go kk) kx
def f_X0_watchman (a0 : Nat) (a1 : Int32) (a2 : Int32) (a3 : Nat) (M : gM) (K : Int32 → gM → Prop) : Prop :=
  kd M a0 = some (.inl 1) ∧ f_X1_watchman a0 a1 a2 M (fun x3 M2 => inA M2 a3 2 0 ∧ ∀ M5, M5 = sJ M2 a3 (ix 0) (x3.toInt64) → K 0 M5) (fun q9 E9 M9 => (E9 = "java/lang/IllegalArgumentException" ∧ K 1 M9))
set_option maxHeartbeats 4000000 in
theorem m_X0_watchman {l : Launch} (hl : l.stackTraces = false) {G : gG} {a0 : Nat} {a1 : Int32} {a2 : Int32} {a3 : Nat} {M : gM} {K : Int32 → gM → Prop} (hf : f_X0_watchman a0 a1 a2 a3 M K) : gMet l G yX0_watchman (wsW_ yX0_watchman cX0_watchman 5 (some Jvm.ClassFile.FieldType.int) [(0, 10, 13, 13)]) ({ frames := 31, cells := 1, slots := 6, locals := 700 }) M [.ref a0, .int a1, .int a2, .ref a3] (kI K) kN := by
  refine gm_ofH hl (ret := (some Jvm.ClassFile.FieldType.int)) rfl (Nat.le_of_ble_eq_true rfl) (fun X h hq => ?_)
  have h : hX l G X cX0_watchman 5 "GlacierMailLaw" 31 700 := h
  have hf := hf
  show V l G X 1 6 M 0 [(0, .ref a0), (1, .int a1), (2, .int a2), (3, .ref a3)] []
  unfold f_X0_watchman at hf
  refine r_aload_n h 3 dX0_watchman_0 rfl rfl ?_
  refine r_iconst (v := 0) h dX0_watchman_1 (by decide) ?_
  refine r_aload_n h 0 dX0_watchman_2 rfl rfl ?_
  refine r_iload_n h 1 dX0_watchman_3 rfl rfl ?_
  refine r_iload_n h 2 dX0_watchman_4 rfl rfl ?_
  obtain ⟨k1, hf⟩ := hf
  refine c1529 hl h dX0_watchman_5 k1 hf (Nat.le_of_ble_eq_true rfl) (by decide) (by decide) (by decide) (by decide) (fun x3 M2 hf => ?_) (fun q9 E9 M9 hf => ?_)
  · skip
    refine r_i2l h dX0_watchman_8 ?_
    obtain ⟨j4, hf⟩ := hf
    refine r_lastore h dX0_watchman_9 j4 ?_
    refine r_goW (fun M5 eM5 => ?_)
    have hf := hf M5 eM5
    refine r_goto (tgt := 17) h dX0_watchman_10 (by decide) ?_
    refine r_iconst (v := 0) h dX0_watchman_17 (by decide) ?_
    exact r_ireturn h hq dX0_watchman_18 ⟨_, rfl, hf⟩
  · rcases hf with ⟨rfl, hf⟩
    · refine r_catch h hq 0 (E := "java/lang/IllegalArgumentException") (nm := "java/lang/IllegalArgumentException") rfl (fun z hz => nomatch hz) (by decide) (by decide) q822 (List.mem_of_getElem? (i := 5) rfl) ?_
      refine r_astore (lv' := [(4, .ref q9), (0, .ref a0), (1, .int a1), (2, .int a2), (3, .ref a3)]) h dX0_watchman_13 (by decide) rfl ?_
      refine r_iconst (v := 1) h dX0_watchman_15 (by decide) ?_
      exact r_ireturn h hq dX0_watchman_16 ⟨_, rfl, hf⟩
theorem c1526 {l : Launch} {G : gG} {X : gX} {cc : ByteArray} {nL F L bc bs pc : Nat} {M : gM} {lv : List (Nat × Value)} {rest : List Value} {a0 : Nat} {a1 : Int32} {a2 : Int32} {a3 : Nat} {K : Int32 → gM → Prop} (hl : l.stackTraces = false) (h : hX l G X cc nL "GlacierMailLaw" F L) (d : decode cc pc = .ok (.invokestatic 262, 3)) (hf : f_X0_watchman a0 a1 a2 a3 M K) (hst : (rest.map fun v => v.category).sum ≤ 8) (hF : 32 ≤ F) (hL : 724 ≤ L) (h1 : 1 ≤ bc) (h2 : 6 ≤ bs) (kk : ∀ x M1, K x M1 → V l G X (bc - 1) (bs - 6) M1 (pc + 3) lv (.int x :: rest)) : V l G X bc bs M pc lv (.ref a3 :: .int a2 :: .int a1 :: .ref a0 :: rest) := r_callSH (n := 4) (As := [.ref a0, .int a1, .int a2, .ref a3]) h (m_X0_watchman hl hf) ⟨by decide, by decide, by decide +kernel⟩ d q1526 q1527 q134 q1528 rfl rfl hst hF hL h1 h2 (kI_go kk) kN_go
def f_X1_meeting (a0 : Nat) (a1 : Int32) (a2 : Int32) (M : gM) (K : Int32 → gM → Prop) (KX : Addr → String → gM → Prop) : Prop :=
  ∀ P23 : Nat → Nat → Nat → Int32 → gM → Prop,
  ∀ P70 : Nat → Nat → Int32 → gM → Prop,
  (∀ (v0 : Nat) (v3 : Nat) (v4 : Nat) (s0 : Int32) (M : gM), (f_X1_must s0 M (fun M8 => kd M8 v3 = some (.inl 7) ∧ kd M8 v4 = some (.inl 7) ∧ if (iv M8 v3 2) = (iv M8 v4 2) then kd M8 v0 = some (.inl 1) ∧ ∃ b13, rv M8 v0 4 = some b13 ∧ kd M8 b13 = some (.inl 9) ∧ f_X9_of b13 v3 M8 (fun b17 M16 => kd M16 v0 = some (.inl 1) ∧ ∃ b19, rv M16 v0 5 = some b19 ∧ kd M16 b19 = some (.inl 9) ∧ f_X9_of b19 v4 M16 (fun b23 M22 => kd M22 v0 = some (.inl 1) ∧ ∃ b25, rv M22 v0 1 = some b25 ∧ kd M22 b25 = some (.inl 3) ∧ P70 b17 b23 (iv M22 b25 22) M22)) else K (-1) M8) KX) → P23 v0 v3 v4 s0 M) →
  (∀ (v5 : Nat) (v6 : Nat) (v7 : Int32) (M : gM), (if 300 ≤ v7 then K (-1) M else kd M v5 = some (.inl 9) ∧ f_X9_isIn v5 v7 M (fun x31 M30 => if x31 = 0 then P70 v5 v6 (v7 + 1) M30 else kd M30 v6 = some (.inl 9) ∧ f_X9_isIn v6 v7 M30 (fun x35 M34 => if x35 = 0 then P70 v5 v6 (v7 + 1) M34 else kd M34 v5 = some (.inl 9) ∧ ∃ b38, rv M34 v5 0 = some b38 ∧ inA M34 b38 0 v7 ∧ kd M34 v6 = some (.inl 9) ∧ ∃ b42, rv M34 v6 0 = some b42 ∧ inA M34 b42 0 v7 ∧ if (iv M34 b38 (ix v7)) = (iv M34 b42 (ix v7)) then K v7 M34 else P70 v5 v6 (v7 + 1) M34))) → P70 v5 v6 v7 M) →
  kd M a0 = some (.inl 1) ∧ f_X1_letterAt a0 a1 M (fun b3 M2 => kd M2 a0 = some (.inl 1) ∧ f_X1_letterAt a0 a2 M2 (fun b6 M5 => if a1 = a2 then P23 a0 b3 b6 0 M5 else P23 a0 b3 b6 1 M5) KX) KX
set_option maxHeartbeats 4000000 in
theorem m_X1_meeting {l : Launch} (hl : l.stackTraces = false) {G : gG} {a0 : Nat} {a1 : Int32} {a2 : Int32} {M : gM} {K : Int32 → gM → Prop} {KX : Addr → String → gM → Prop} (hf : f_X1_meeting a0 a1 a2 M K KX) : gMet l G yX1_meeting (ws_ yX1_meeting cX1_meeting 8 (some Jvm.ClassFile.FieldType.int)) ({ frames := 29, cells := 3, slots := 18, locals := 647 }) M [.ref a0, .int a1, .int a2] (kI K) KX := by
  refine gm_of hl (ret := (some Jvm.ClassFile.FieldType.int)) rfl (Nat.le_of_ble_eq_true rfl) (fun X h hq => ?_)
  have h : hX l G X cX1_meeting 8 "GlacierMail" 29 647 := h
  have hf := hf
  show V l G X 3 18 M 0 [(0, .ref a0), (1, .int a1), (2, .int a2)] []
  have hf := hf
    (fun v0 v3 v4 s0 M => V l G X 1 6 M 23 [(0, .ref v0), (3, .ref v3), (4, .ref v4)] [.int s0])
    (fun v5 v6 v7 M => V l G X 0 0 M 70 [(5, .ref v5), (6, .ref v6), (7, .int v7)] [])
    (by
      intro v0 v3 v4 s0 M hf
      show V l G X 1 6 M 23 [(0, .ref v0), (3, .ref v3), (4, .ref v4)] [.int s0]
      refine c1147 hl h dX1_meeting_23 hf (Nat.le_of_ble_eq_true rfl) (by decide) (by decide) (by decide) (by decide) (fun M8 hf => ?_) (fun q9 E9 M9 hf => r_out h hq hf)
      refine r_aload_n h 1 dX1_meeting_26 rfl rfl ?_
      obtain ⟨k9, hf⟩ := hf
      refine g286 h dX1_meeting_27 k9 ?_
      refine r_aload h 2 dX1_meeting_30 rfl ?_
      obtain ⟨k10, hf⟩ := hf
      refine g286 h dX1_meeting_32 k10 ?_
      refine r_icmp_eq (tgt := 40) h dX1_meeting_35 (by decide) (fun c11 => ?_) (fun c11 => ?_)
      · have hf := ite_t c11 hf
        refine r_aload_n h 0 dX1_meeting_40 rfl rfl ?_
        obtain ⟨k12, hf⟩ := hf
        obtain ⟨b13, e14, hf⟩ := hf
        refine g577 h dX1_meeting_41 k12 e14 ?_
        refine r_aload_n h 1 dX1_meeting_44 rfl rfl ?_
        obtain ⟨k15, hf⟩ := hf
        refine c649 hl h dX1_meeting_45 k15 hf (Nat.le_of_ble_eq_true rfl) (by decide) (by decide) (fun b17 M16 hf => ?_)
        refine r_astore (lv' := [(5, .ref b17), (0, .ref v0), (3, .ref v3), (4, .ref v4)]) h dX1_meeting_48 (by decide) rfl ?_
        refine r_aload_n h 1 dX1_meeting_50 rfl rfl ?_
        obtain ⟨k18, hf⟩ := hf
        obtain ⟨b19, e20, hf⟩ := hf
        refine g578 h dX1_meeting_51 k18 e20 ?_
        refine r_aload h 3 dX1_meeting_54 rfl ?_
        obtain ⟨k21, hf⟩ := hf
        refine c649 hl h dX1_meeting_56 k21 hf (Nat.le_of_ble_eq_true rfl) (by decide) (by decide) (fun b23 M22 hf => ?_)
        refine r_astore (lv' := [(6, .ref b23), (5, .ref b17), (0, .ref v0), (3, .ref v3), (4, .ref v4)]) h dX1_meeting_59 (by decide) rfl ?_
        refine r_aload_n h 2 dX1_meeting_61 rfl rfl ?_
        obtain ⟨k24, hf⟩ := hf
        obtain ⟨b25, e26, hf⟩ := hf
        refine g573 h dX1_meeting_62 k24 e26 ?_
        obtain ⟨k27, hf⟩ := hf
        refine g381 h dX1_meeting_65 k27 ?_
        refine r_istore (lv' := [(7, .int (iv M22 b25 22)), (6, .ref b23), (5, .ref b17), (0, .ref v0), (3, .ref v3), (4, .ref v4)]) h dX1_meeting_68 (by decide) rfl ?_
        exact V.sub [2, 1, 0] rfl hf
      · have hf := ite_f c11 hf
        refine r_iconst (v := (-1)) h dX1_meeting_38 (by decide) ?_
        exact r_ireturn h hq dX1_meeting_39 ⟨_, rfl, hf⟩)
    (by
      intro v5 v6 v7 M hf
      show V l G X 0 0 M 70 [(5, .ref v5), (6, .ref v6), (7, .int v7)] []
      refine r_iload h 2 dX1_meeting_70 rfl ?_
      refine r_sipush (v := 300) h dX1_meeting_72 (by decide) ?_
      refine r_icmp_ge (tgt := 126) h dX1_meeting_75 (by decide) (fun c28 => ?_) (fun c28 => ?_)
      · have hf := ite_t c28 hf
        refine r_iconst (v := (-1)) h dX1_meeting_126 (by decide) ?_
        exact r_ireturn h hq dX1_meeting_127 ⟨_, rfl, hf⟩
      · have hf := ite_f c28 hf
        refine r_aload h 0 dX1_meeting_78 rfl ?_
        refine r_iload h 2 dX1_meeting_80 rfl ?_
        obtain ⟨k29, hf⟩ := hf
        refine c815 hl h dX1_meeting_82 k29 hf (Nat.le_of_ble_eq_true rfl) (by decide) (by decide) (fun x31 M30 hf => ?_)
        refine r_if_eq (tgt := 120) h dX1_meeting_85 (by decide) (fun c32 => ?_) (fun c32 => ?_)
        · have hf := ite_t c32 hf
          refine r_iinc (v := v7 + 1) (lv' := [(7, .int (v7 + 1)), (5, .ref v5), (6, .ref v6)]) h 2 dX1_meeting_120 rfl rfl (by decide) rfl ?_
          refine r_goto (tgt := 70) h dX1_meeting_123 (by decide) ?_
          exact V.sub [1, 2, 0] rfl hf
        · have hf := ite_f c32 hf
          refine r_aload h 1 dX1_meeting_88 rfl ?_
          refine r_iload h 2 dX1_meeting_90 rfl ?_
          obtain ⟨k33, hf⟩ := hf
          refine c815 hl h dX1_meeting_92 k33 hf (Nat.le_of_ble_eq_true rfl) (by decide) (by decide) (fun x35 M34 hf => ?_)
          refine r_if_eq (tgt := 120) h dX1_meeting_95 (by decide) (fun c36 => ?_) (fun c36 => ?_)
          · have hf := ite_t c36 hf
            refine r_iinc (v := v7 + 1) (lv' := [(7, .int (v7 + 1)), (5, .ref v5), (6, .ref v6)]) h 2 dX1_meeting_120 rfl rfl (by decide) rfl ?_
            refine r_goto (tgt := 70) h dX1_meeting_123 (by decide) ?_
            exact V.sub [1, 2, 0] rfl hf
          · have hf := ite_f c36 hf
            refine r_aload h 0 dX1_meeting_98 rfl ?_
            obtain ⟨k37, hf⟩ := hf
            obtain ⟨b38, e39, hf⟩ := hf
            refine g553 h dX1_meeting_100 k37 e39 ?_
            refine r_iload h 2 dX1_meeting_103 rfl ?_
            obtain ⟨j40, hf⟩ := hf
            refine r_iaload h dX1_meeting_105 j40 ?_
            refine r_aload h 1 dX1_meeting_106 rfl ?_
            obtain ⟨k41, hf⟩ := hf
            obtain ⟨b42, e43, hf⟩ := hf
            refine g553 h dX1_meeting_108 k41 e43 ?_
            refine r_iload h 2 dX1_meeting_111 rfl ?_
            obtain ⟨j44, hf⟩ := hf
            refine r_iaload h dX1_meeting_113 j44 ?_
            refine r_icmp_ne (tgt := 120) h dX1_meeting_114 (by decide) (fun c45 => ?_) (fun c45 => ?_)
            · have hf := ite_f c45 hf
              refine r_iinc (v := v7 + 1) (lv' := [(7, .int (v7 + 1)), (5, .ref v5), (6, .ref v6)]) h 2 dX1_meeting_120 rfl rfl (by decide) rfl ?_
              refine r_goto (tgt := 70) h dX1_meeting_123 (by decide) ?_
              exact V.sub [1, 2, 0] rfl hf
            · have hf := ite_t c45 hf
              refine r_iload h 2 dX1_meeting_117 rfl ?_
              exact r_ireturn h hq dX1_meeting_119 ⟨_, rfl, hf⟩)
  refine r_aload_n h 0 dX1_meeting_0 rfl rfl ?_
  refine r_iload_n h 1 dX1_meeting_1 rfl rfl ?_
  obtain ⟨k1, hf⟩ := hf
  refine c1261 hl h dX1_meeting_2 k1 hf (Nat.le_of_ble_eq_true rfl) (by decide) (by decide) (by decide) (by decide) (fun b3 M2 hf => ?_) (fun q9 E9 M9 hf => r_out h hq hf)
  refine r_astore_n (lv' := [(3, .ref b3), (0, .ref a0), (1, .int a1), (2, .int a2)]) h dX1_meeting_5 rfl (by decide) rfl ?_
  refine r_aload_n h 1 dX1_meeting_6 rfl rfl ?_
  refine r_iload_n h 3 dX1_meeting_7 rfl rfl ?_
  obtain ⟨k4, hf⟩ := hf
  refine c1261 hl h dX1_meeting_8 k4 hf (Nat.le_of_ble_eq_true rfl) (by decide) (by decide) (by decide) (by decide) (fun b6 M5 hf => ?_) (fun q9 E9 M9 hf => r_out h hq hf)
  refine r_astore (lv' := [(4, .ref b6), (3, .ref b3), (0, .ref a0), (1, .int a1), (2, .int a2)]) h dX1_meeting_11 (by decide) rfl ?_
  refine r_iload_n h 3 dX1_meeting_13 rfl rfl ?_
  refine r_iload_n h 4 dX1_meeting_14 rfl rfl ?_
  refine r_icmp_eq (tgt := 22) h dX1_meeting_15 (by decide) (fun c7 => ?_) (fun c7 => ?_)
  · have hf := ite_t c7 hf
    refine r_iconst (v := 0) h dX1_meeting_22 (by decide) ?_
    exact V.sub [2, 1, 0] rfl hf
  · have hf := ite_f c7 hf
    refine r_iconst (v := 1) h dX1_meeting_18 (by decide) ?_
    refine r_goto (tgt := 23) h dX1_meeting_19 (by decide) ?_
    exact V.sub [2, 1, 0] rfl hf
theorem c1536 {l : Launch} {G : gG} {X : gX} {cc : ByteArray} {nL F L bc bs pc : Nat} {M : gM} {lv : List (Nat × Value)} {rest : List Value} {a0 : Nat} {a1 : Int32} {a2 : Int32} {K : Int32 → gM → Prop} {KX : Addr → String → gM → Prop} (hl : l.stackTraces = false) (h : hX l G X cc nL "GlacierMailLaw" F L) (d : decode cc pc = .ok (.invokevirtual 114, 3)) (hk : kd M a0 = some (.inl 1)) (hf : f_X1_meeting a0 a1 a2 M K KX) (hst : (rest.map fun v => v.category).sum ≤ 8) (hF : 30 ≤ F) (hL : 674 ≤ L) (h1 : 3 ≤ bc) (h2 : 18 ≤ bs) (kk : ∀ x M1, K x M1 → V l G X (bc - 3) (bs - 18) M1 (pc + 3) lv (.int x :: rest)) (kx : ∀ q E M1, KX q E M1 → VX l G X (bc - 3) (bs - 18) M1 pc lv q E) : V l G X bc bs M pc lv (.int a2 :: .int a1 :: .ref a0 :: rest) := r_callV (n := 2) (As := [.int a1, .int a2]) h (m_X1_meeting hl hf) 1 rfl hk rfl ⟨by decide, by decide, by decide +kernel⟩ d q1536 q1537 q1538 q135 q1539 rfl rfl hst hF hL h1 h2 (kI_go kk) kx
def f_X0_meeting (a0 : Nat) (a1 : Int32) (a2 : Int32) (a3 : Nat) (M : gM) (K : Int32 → gM → Prop) : Prop :=
  kd M a0 = some (.inl 1) ∧ f_X1_meeting a0 a1 a2 M (fun x3 M2 => inA M2 a3 2 0 ∧ ∀ M5, M5 = sJ M2 a3 (ix 0) (x3.toInt64) → K 0 M5) (fun q9 E9 M9 => (E9 = "java/lang/IndexOutOfBoundsException" ∧ K 1 M9) ∨ (E9 = "java/lang/IllegalArgumentException" ∧ K 2 M9))
set_option maxHeartbeats 4000000 in
theorem m_X0_meeting {l : Launch} (hl : l.stackTraces = false) {G : gG} {a0 : Nat} {a1 : Int32} {a2 : Int32} {a3 : Nat} {M : gM} {K : Int32 → gM → Prop} (hf : f_X0_meeting a0 a1 a2 a3 M K) : gMet l G yX0_meeting (wsW_ yX0_meeting cX0_meeting 5 (some Jvm.ClassFile.FieldType.int) [(0, 10, 13, 28), (0, 10, 17, 13)]) ({ frames := 30, cells := 3, slots := 18, locals := 674 }) M [.ref a0, .int a1, .int a2, .ref a3] (kI K) kN := by
  refine gm_ofH hl (ret := (some Jvm.ClassFile.FieldType.int)) rfl (Nat.le_of_ble_eq_true rfl) (fun X h hq => ?_)
  have h : hX l G X cX0_meeting 5 "GlacierMailLaw" 30 674 := h
  have hf := hf
  show V l G X 3 18 M 0 [(0, .ref a0), (1, .int a1), (2, .int a2), (3, .ref a3)] []
  unfold f_X0_meeting at hf
  refine r_aload_n h 3 dX0_meeting_0 rfl rfl ?_
  refine r_iconst (v := 0) h dX0_meeting_1 (by decide) ?_
  refine r_aload_n h 0 dX0_meeting_2 rfl rfl ?_
  refine r_iload_n h 1 dX0_meeting_3 rfl rfl ?_
  refine r_iload_n h 2 dX0_meeting_4 rfl rfl ?_
  obtain ⟨k1, hf⟩ := hf
  refine c1536 hl h dX0_meeting_5 k1 hf (Nat.le_of_ble_eq_true rfl) (by decide) (by decide) (by decide) (by decide) (fun x3 M2 hf => ?_) (fun q9 E9 M9 hf => ?_)
  · skip
    refine r_i2l h dX0_meeting_8 ?_
    obtain ⟨j4, hf⟩ := hf
    refine r_lastore h dX0_meeting_9 j4 ?_
    refine r_goW (fun M5 eM5 => ?_)
    have hf := hf M5 eM5
    refine r_goto (tgt := 21) h dX0_meeting_10 (by decide) ?_
    refine r_iconst (v := 0) h dX0_meeting_21 (by decide) ?_
    exact r_ireturn h hq dX0_meeting_22 ⟨_, rfl, hf⟩
  · rcases hf with ⟨rfl, hf⟩ | ⟨rfl, hf⟩
    · refine r_catch h hq 0 (E := "java/lang/IndexOutOfBoundsException") (nm := "java/lang/IndexOutOfBoundsException") rfl (fun z hz => nomatch hz) (by decide) (by decide) q1153 (List.mem_of_getElem? (i := 8) rfl) ?_
      refine r_astore (lv' := [(4, .ref q9), (0, .ref a0), (1, .int a1), (2, .int a2), (3, .ref a3)]) h dX0_meeting_13 (by decide) rfl ?_
      refine r_iconst (v := 1) h dX0_meeting_15 (by decide) ?_
      exact r_ireturn h hq dX0_meeting_16 ⟨_, rfl, hf⟩
    · refine r_catch h hq 1 (E := "java/lang/IllegalArgumentException") (nm := "java/lang/IllegalArgumentException") rfl (List.forall_mem_cons.mpr ⟨Or.inr ⟨by decide, "java/lang/IndexOutOfBoundsException", q1153, List.mem_of_getElem? (i := 16) rfl⟩, List.forall_mem_nil _⟩) (by decide) (by decide) q822 (List.mem_of_getElem? (i := 5) rfl) ?_
      refine r_astore (lv' := [(4, .ref q9), (0, .ref a0), (1, .int a1), (2, .int a2), (3, .ref a3)]) h dX0_meeting_17 (by decide) rfl ?_
      refine r_iconst (v := 2) h dX0_meeting_19 (by decide) ?_
      exact r_ireturn h hq dX0_meeting_20 ⟨_, rfl, hf⟩
theorem c1533 {l : Launch} {G : gG} {X : gX} {cc : ByteArray} {nL F L bc bs pc : Nat} {M : gM} {lv : List (Nat × Value)} {rest : List Value} {a0 : Nat} {a1 : Int32} {a2 : Int32} {a3 : Nat} {K : Int32 → gM → Prop} (hl : l.stackTraces = false) (h : hX l G X cc nL "GlacierMailLaw" F L) (d : decode cc pc = .ok (.invokestatic 265, 3)) (hf : f_X0_meeting a0 a1 a2 a3 M K) (hst : (rest.map fun v => v.category).sum ≤ 8) (hF : 31 ≤ F) (hL : 698 ≤ L) (h1 : 3 ≤ bc) (h2 : 18 ≤ bs) (kk : ∀ x M1, K x M1 → V l G X (bc - 3) (bs - 18) M1 (pc + 3) lv (.int x :: rest)) : V l G X bc bs M pc lv (.ref a3 :: .int a2 :: .int a1 :: .ref a0 :: rest) := r_callSH (n := 4) (As := [.ref a0, .int a1, .int a2, .ref a3]) h (m_X0_meeting hl hf) ⟨by decide, by decide, by decide +kernel⟩ d q1533 q1534 q134 q1535 rfl rfl hst hF hL h1 h2 (kI_go kk) kN_go
def f_X1_outOf (a0 : Nat) (a1 : Int32) (M : gM) (K : Int32 → gM → Prop) : Prop :=
  kd M a0 = some (.inl 1) ∧ ∃ b2, rv M a0 4 = some b2 ∧ ∃ b4, rv M a0 1 = some b4 ∧ kd M b4 = some (.inl 3) ∧ ∃ b7, rv M b4 3 = some b7 ∧ inA M b7 8 a1 ∧ ∃ b10, rv M b7 (ix a1) = some b10 ∧ kd M b2 = some (.inl 9) ∧ f_X9_of b2 b10 M (fun b14 M13 => kd M13 b14 = some (.inl 9) ∧ K (iv M13 b14 3) M13)
set_option maxHeartbeats 4000000 in
theorem m_X1_outOf {l : Launch} (hl : l.stackTraces = false) {G : gG} {a0 : Nat} {a1 : Int32} {M : gM} {K : Int32 → gM → Prop} (hf : f_X1_outOf a0 a1 M K) : gMet l G yX1_outOf (ws_ yX1_outOf cX1_outOf 2 (some Jvm.ClassFile.FieldType.int)) ({ frames := 29, cells := 0, slots := 0, locals := 647 }) M [.ref a0, .int a1] (kI K) kN := by
  refine gm_of hl (ret := (some Jvm.ClassFile.FieldType.int)) rfl (Nat.le_of_ble_eq_true rfl) (fun X h hq => ?_)
  have h : hX l G X cX1_outOf 2 "GlacierMail" 29 647 := h
  have hf := hf
  show V l G X 0 0 M 0 [(0, .ref a0), (1, .int a1)] []
  unfold f_X1_outOf at hf
  refine r_aload_n h 0 dX1_outOf_0 rfl rfl ?_
  obtain ⟨k1, hf⟩ := hf
  obtain ⟨b2, e3, hf⟩ := hf
  refine g577 h dX1_outOf_1 k1 e3 ?_
  refine r_aload_n h 0 dX1_outOf_4 rfl rfl ?_
  obtain ⟨b4, e5, hf⟩ := hf
  refine g573 h dX1_outOf_5 k1 e5 ?_
  obtain ⟨k6, hf⟩ := hf
  obtain ⟨b7, e8, hf⟩ := hf
  refine g329 h dX1_outOf_8 k6 e8 ?_
  refine r_iload_n h 1 dX1_outOf_11 rfl rfl ?_
  obtain ⟨j9, b10, e11, hf⟩ := hf
  refine r_aaload h 8 (by decide) (by decide) dX1_outOf_12 j9 (v := .ref b10) (by rw [e11]; rfl) ?_
  obtain ⟨k12, hf⟩ := hf
  refine c649 hl h dX1_outOf_13 k12 hf (Nat.le_of_ble_eq_true rfl) (by decide) (by decide) (fun b14 M13 hf => ?_)
  obtain ⟨k15, hf⟩ := hf
  refine g559 h dX1_outOf_16 k15 ?_
  exact r_ireturn h hq dX1_outOf_19 ⟨_, rfl, hf⟩
theorem c645 {l : Launch} {G : gG} {X : gX} {cc : ByteArray} {nL F L bc bs pc : Nat} {M : gM} {lv : List (Nat × Value)} {rest : List Value} {a0 : Nat} {a1 : Int32} {K : Int32 → gM → Prop} (hl : l.stackTraces = false) (h : hX l G X cc nL "GlacierMail" F L) (d : decode cc pc = .ok (.invokevirtual 335, 3)) (hk : kd M a0 = some (.inl 1)) (hf : f_X1_outOf a0 a1 M K) (hst : (rest.map fun v => v.category).sum ≤ 8) (hF : 30 ≤ F) (hL : 668 ≤ L) (kk : ∀ x M1, K x M1 → V l G X bc bs M1 (pc + 3) lv (.int x :: rest)) : V l G X bc bs M pc lv (.int a1 :: .ref a0 :: rest) := r_callV (n := 1) (As := [.int a1]) h (m_X1_outOf hl hf) 1 rfl hk rfl ⟨by decide, by decide, by decide +kernel⟩ d q645 q647 qs2 q135 q648 rfl rfl hst hF hL (Nat.zero_le _) (Nat.zero_le _) (kI_go kk) kN_go
def f_X1_outs (a0 : Nat) (a1 : Int32) (M : gM) (K : Int32 → gM → Prop) (KX : Addr → String → gM → Prop) : Prop :=
  ∀ P8 : Nat → Int32 → Int32 → Int32 → gM → Prop,
  (∀ (v0 : Nat) (v1 : Int32) (v2 : Int32) (v3 : Int32) (M : gM), (kd M v0 = some (.inl 1) ∧ ∃ b3, rv M v0 1 = some b3 ∧ kd M b3 = some (.inl 3) ∧ if (iv M b3 14) ≤ v3 then K v2 M else f_X1_outOf v0 v3 M (fun x8 M7 => if x8 = v1 then P8 v0 v1 (v2 + 1) (v3 + 1) M7 else P8 v0 v1 (v2 + 0) (v3 + 1) M7)) → P8 v0 v1 v2 v3 M) →
  f_X1_isYear a1 M (fun M1 => P8 a0 a1 0 0 M1) KX
set_option maxHeartbeats 4000000 in
theorem m_X1_outs {l : Launch} (hl : l.stackTraces = false) {G : gG} {a0 : Nat} {a1 : Int32} {M : gM} {K : Int32 → gM → Prop} {KX : Addr → String → gM → Prop} (hf : f_X1_outs a0 a1 M K KX) : gMet l G yX1_outs (ws_ yX1_outs cX1_outs 4 (some Jvm.ClassFile.FieldType.int)) ({ frames := 30, cells := 1, slots := 6, locals := 668 }) M [.ref a0, .int a1] (kI K) KX := by
  refine gm_of hl (ret := (some Jvm.ClassFile.FieldType.int)) rfl (Nat.le_of_ble_eq_true rfl) (fun X h hq => ?_)
  have h : hX l G X cX1_outs 4 "GlacierMail" 30 668 := h
  have hf := hf
  show V l G X 1 6 M 0 [(0, .ref a0), (1, .int a1)] []
  have hf := hf
    (fun v0 v1 v2 v3 M => V l G X 0 0 M 8 [(0, .ref v0), (1, .int v1), (2, .int v2), (3, .int v3)] [])
    (by
      intro v0 v1 v2 v3 M hf
      show V l G X 0 0 M 8 [(0, .ref v0), (1, .int v1), (2, .int v2), (3, .int v3)] []
      refine r_iload_n h 3 dX1_outs_8 rfl rfl ?_
      refine r_aload_n h 0 dX1_outs_9 rfl rfl ?_
      obtain ⟨k2, hf⟩ := hf
      obtain ⟨b3, e4, hf⟩ := hf
      refine g573 h dX1_outs_10 k2 e4 ?_
      obtain ⟨k5, hf⟩ := hf
      refine g358 h dX1_outs_13 k5 ?_
      refine r_icmp_ge (tgt := 42) h dX1_outs_16 (by decide) (fun c6 => ?_) (fun c6 => ?_)
      · have hf := ite_t c6 hf
        refine r_iload_n h 2 dX1_outs_42 rfl rfl ?_
        exact r_ireturn h hq dX1_outs_43 ⟨_, rfl, hf⟩
      · have hf := ite_f c6 hf
        refine r_iload_n h 2 dX1_outs_19 rfl rfl ?_
        refine r_aload_n h 0 dX1_outs_20 rfl rfl ?_
        refine r_iload_n h 3 dX1_outs_21 rfl rfl ?_
        refine c645 hl h dX1_outs_22 k2 hf (Nat.le_of_ble_eq_true rfl) (by decide) (by decide) (fun x8 M7 hf => ?_)
        refine r_iload_n h 1 dX1_outs_25 rfl rfl ?_
        refine r_icmp_ne (tgt := 33) h dX1_outs_26 (by decide) (fun c9 => ?_) (fun c9 => ?_)
        · have hf := ite_f c9 hf
          refine r_iconst (v := 0) h dX1_outs_33 (by decide) ?_
          refine r_iadd h dX1_outs_34 ?_
          refine r_istore_n (lv' := [(2, .int (v2 + 0)), (0, .ref v0), (1, .int v1), (3, .int v3)]) h dX1_outs_35 rfl (by decide) rfl ?_
          refine r_iinc (v := v3 + 1) (lv' := [(3, .int (v3 + 1)), (2, .int (v2 + 0)), (0, .ref v0), (1, .int v1)]) h 3 dX1_outs_36 rfl rfl (by decide) rfl ?_
          refine r_goto (tgt := 8) h dX1_outs_39 (by decide) ?_
          exact V.sub [2, 3, 1, 0] rfl hf
        · have hf := ite_t c9 hf
          refine r_iconst (v := 1) h dX1_outs_29 (by decide) ?_
          refine r_goto (tgt := 34) h dX1_outs_30 (by decide) ?_
          refine r_iadd h dX1_outs_34 ?_
          refine r_istore_n (lv' := [(2, .int (v2 + 1)), (0, .ref v0), (1, .int v1), (3, .int v3)]) h dX1_outs_35 rfl (by decide) rfl ?_
          refine r_iinc (v := v3 + 1) (lv' := [(3, .int (v3 + 1)), (2, .int (v2 + 1)), (0, .ref v0), (1, .int v1)]) h 3 dX1_outs_36 rfl rfl (by decide) rfl ?_
          refine r_goto (tgt := 8) h dX1_outs_39 (by decide) ?_
          exact V.sub [2, 3, 1, 0] rfl hf)
  refine r_iload_n h 1 dX1_outs_0 rfl rfl ?_
  refine c1144 hl h dX1_outs_1 hf (Nat.le_of_ble_eq_true rfl) (by decide) (by decide) (by decide) (by decide) (fun M1 hf => ?_) (fun q9 E9 M9 hf => r_out h hq hf)
  refine r_iconst (v := 0) h dX1_outs_4 (by decide) ?_
  refine r_istore_n (lv' := [(2, .int 0), (0, .ref a0), (1, .int a1)]) h dX1_outs_5 rfl (by decide) rfl ?_
  refine r_iconst (v := 0) h dX1_outs_6 (by decide) ?_
  refine r_istore_n (lv' := [(3, .int 0), (2, .int 0), (0, .ref a0), (1, .int a1)]) h dX1_outs_7 rfl (by decide) rfl ?_
  exact V.sub [2, 3, 1, 0] rfl hf
theorem c1543 {l : Launch} {G : gG} {X : gX} {cc : ByteArray} {nL F L bc bs pc : Nat} {M : gM} {lv : List (Nat × Value)} {rest : List Value} {a0 : Nat} {a1 : Int32} {K : Int32 → gM → Prop} {KX : Addr → String → gM → Prop} (hl : l.stackTraces = false) (h : hX l G X cc nL "GlacierMailLaw" F L) (d : decode cc pc = .ok (.invokevirtual 117, 3)) (hk : kd M a0 = some (.inl 1)) (hf : f_X1_outs a0 a1 M K KX) (hst : (rest.map fun v => v.category).sum ≤ 8) (hF : 31 ≤ F) (hL : 691 ≤ L) (h1 : 1 ≤ bc) (h2 : 6 ≤ bs) (kk : ∀ x M1, K x M1 → V l G X (bc - 1) (bs - 6) M1 (pc + 3) lv (.int x :: rest)) (kx : ∀ q E M1, KX q E M1 → VX l G X (bc - 1) (bs - 6) M1 pc lv q E) : V l G X bc bs M pc lv (.int a1 :: .ref a0 :: rest) := r_callV (n := 1) (As := [.int a1]) h (m_X1_outs hl hf) 1 rfl hk rfl ⟨by decide, by decide, by decide +kernel⟩ d q1543 q1544 q1545 q135 q1546 rfl rfl hst hF hL h1 h2 (kI_go kk) kx
def f_X0_outs (a0 : Nat) (a1 : Int32) (a2 : Nat) (M : gM) (K : Int32 → gM → Prop) : Prop :=
  kd M a0 = some (.inl 1) ∧ f_X1_outs a0 a1 M (fun x3 M2 => inA M2 a2 2 0 ∧ ∀ M5, M5 = sJ M2 a2 (ix 0) (x3.toInt64) → K 0 M5) (fun q9 E9 M9 => (E9 = "java/lang/IllegalArgumentException" ∧ K 1 M9))
set_option maxHeartbeats 4000000 in
theorem m_X0_outs {l : Launch} (hl : l.stackTraces = false) {G : gG} {a0 : Nat} {a1 : Int32} {a2 : Nat} {M : gM} {K : Int32 → gM → Prop} (hf : f_X0_outs a0 a1 a2 M K) : gMet l G yX0_outs (wsW_ yX0_outs cX0_outs 4 (some Jvm.ClassFile.FieldType.int) [(0, 9, 12, 13)]) ({ frames := 31, cells := 1, slots := 6, locals := 691 }) M [.ref a0, .int a1, .ref a2] (kI K) kN := by
  refine gm_ofH hl (ret := (some Jvm.ClassFile.FieldType.int)) rfl (Nat.le_of_ble_eq_true rfl) (fun X h hq => ?_)
  have h : hX l G X cX0_outs 4 "GlacierMailLaw" 31 691 := h
  have hf := hf
  show V l G X 1 6 M 0 [(0, .ref a0), (1, .int a1), (2, .ref a2)] []
  unfold f_X0_outs at hf
  refine r_aload_n h 2 dX0_outs_0 rfl rfl ?_
  refine r_iconst (v := 0) h dX0_outs_1 (by decide) ?_
  refine r_aload_n h 0 dX0_outs_2 rfl rfl ?_
  refine r_iload_n h 1 dX0_outs_3 rfl rfl ?_
  obtain ⟨k1, hf⟩ := hf
  refine c1543 hl h dX0_outs_4 k1 hf (Nat.le_of_ble_eq_true rfl) (by decide) (by decide) (by decide) (by decide) (fun x3 M2 hf => ?_) (fun q9 E9 M9 hf => ?_)
  · skip
    refine r_i2l h dX0_outs_7 ?_
    obtain ⟨j4, hf⟩ := hf
    refine r_lastore h dX0_outs_8 j4 ?_
    refine r_goW (fun M5 eM5 => ?_)
    have hf := hf M5 eM5
    refine r_goto (tgt := 15) h dX0_outs_9 (by decide) ?_
    refine r_iconst (v := 0) h dX0_outs_15 (by decide) ?_
    exact r_ireturn h hq dX0_outs_16 ⟨_, rfl, hf⟩
  · rcases hf with ⟨rfl, hf⟩
    · refine r_catch h hq 0 (E := "java/lang/IllegalArgumentException") (nm := "java/lang/IllegalArgumentException") rfl (fun z hz => nomatch hz) (by decide) (by decide) q822 (List.mem_of_getElem? (i := 5) rfl) ?_
      refine r_astore_n (lv' := [(3, .ref q9), (0, .ref a0), (1, .int a1), (2, .ref a2)]) h dX0_outs_12 rfl (by decide) rfl ?_
      refine r_iconst (v := 1) h dX0_outs_13 (by decide) ?_
      exact r_ireturn h hq dX0_outs_14 ⟨_, rfl, hf⟩
theorem c1540 {l : Launch} {G : gG} {X : gX} {cc : ByteArray} {nL F L bc bs pc : Nat} {M : gM} {lv : List (Nat × Value)} {rest : List Value} {a0 : Nat} {a1 : Int32} {a2 : Nat} {K : Int32 → gM → Prop} (hl : l.stackTraces = false) (h : hX l G X cc nL "GlacierMailLaw" F L) (d : decode cc pc = .ok (.invokestatic 268, 3)) (hf : f_X0_outs a0 a1 a2 M K) (hst : (rest.map fun v => v.category).sum ≤ 8) (hF : 32 ≤ F) (hL : 714 ≤ L) (h1 : 1 ≤ bc) (h2 : 6 ≤ bs) (kk : ∀ x M1, K x M1 → V l G X (bc - 1) (bs - 6) M1 (pc + 3) lv (.int x :: rest)) : V l G X bc bs M pc lv (.ref a2 :: .int a1 :: .ref a0 :: rest) := r_callSH (n := 3) (As := [.ref a0, .int a1, .ref a2]) h (m_X0_outs hl hf) ⟨by decide, by decide, by decide +kernel⟩ d q1540 q1541 q134 q1542 rfl rfl hst hF hL h1 h2 (kI_go kk) kN_go
def f_X1_streams (a0 : Nat) (a1 : Int32) (a2 : Int32) (M : gM) (K : Int32 → gM → Prop) (KX : Addr → String → gM → Prop) : Prop :=
  ∀ P9 : Nat → Int32 → Int32 → Int32 → Int32 → gM → Prop,
  ∀ P50 : Nat → Int32 → Int32 → Int32 → Int32 → Int32 → gM → Prop,
  (∀ (v0 : Nat) (v1 : Int32) (v2 : Int32) (v3 : Int32) (v4 : Int32) (M : gM), (kd M v0 = some (.inl 1) ∧ ∃ b3, rv M v0 1 = some b3 ∧ kd M b3 = some (.inl 3) ∧ if (iv M b3 14) ≤ v4 then K v3 M else ∃ b7, rv M v0 1 = some b7 ∧ kd M b7 = some (.inl 3) ∧ ∃ b10, rv M b7 3 = some b10 ∧ inA M b10 8 v4 ∧ ∃ b13, rv M b10 (ix v4) = some b13 ∧ kd M b13 = some (.inl 7) ∧ ∃ b16, rv M v0 1 = some b16 ∧ kd M b16 = some (.inl 3) ∧ if (iv M b16 20) ≤ (iv M b13 2) then P50 v0 v1 v2 v4 0 v3 M else P50 v0 v1 v2 v4 1 v3 M) → P9 v0 v1 v2 v3 v4 M) →
  (∀ (v0 : Nat) (v1 : Int32) (v2 : Int32) (v4 : Int32) (s0 : Int32) (s1 : Int32) (M : gM), (if s0 = v2 then P9 v0 v1 v2 (s1 + 0) (v4 + 1) M else kd M v0 = some (.inl 1) ∧ f_X1_outOf v0 v4 M (fun x23 M22 => if v1 < x23 then P9 v0 v1 v2 (s1 + 0) (v4 + 1) M22 else P9 v0 v1 v2 (s1 + 1) (v4 + 1) M22)) → P50 v0 v1 v2 v4 s0 s1 M) →
  f_X1_isYear a1 M (fun M1 => P9 a0 a1 a2 0 0 M1) KX
set_option maxHeartbeats 4000000 in
theorem m_X1_streams {l : Launch} (hl : l.stackTraces = false) {G : gG} {a0 : Nat} {a1 : Int32} {a2 : Int32} {M : gM} {K : Int32 → gM → Prop} {KX : Addr → String → gM → Prop} (hf : f_X1_streams a0 a1 a2 M K KX) : gMet l G yX1_streams (ws_ yX1_streams cX1_streams 5 (some Jvm.ClassFile.FieldType.int)) ({ frames := 30, cells := 1, slots := 6, locals := 668 }) M [.ref a0, .int a1, .int a2] (kI K) KX := by
  refine gm_of hl (ret := (some Jvm.ClassFile.FieldType.int)) rfl (Nat.le_of_ble_eq_true rfl) (fun X h hq => ?_)
  have h : hX l G X cX1_streams 5 "GlacierMail" 30 668 := h
  have hf := hf
  show V l G X 1 6 M 0 [(0, .ref a0), (1, .int a1), (2, .int a2)] []
  have hf := hf
    (fun v0 v1 v2 v3 v4 M => V l G X 0 0 M 9 [(0, .ref v0), (1, .int v1), (2, .int v2), (3, .int v3), (4, .int v4)] [])
    (fun v0 v1 v2 v4 s0 s1 M => V l G X 0 0 M 50 [(0, .ref v0), (1, .int v1), (2, .int v2), (4, .int v4)] [.int s0, .int s1])
    (by
      intro v0 v1 v2 v3 v4 M hf
      show V l G X 0 0 M 9 [(0, .ref v0), (1, .int v1), (2, .int v2), (3, .int v3), (4, .int v4)] []
      refine r_iload h 4 dX1_streams_9 rfl ?_
      refine r_aload_n h 0 dX1_streams_11 rfl rfl ?_
      obtain ⟨k2, hf⟩ := hf
      obtain ⟨b3, e4, hf⟩ := hf
      refine g573 h dX1_streams_12 k2 e4 ?_
      obtain ⟨k5, hf⟩ := hf
      refine g358 h dX1_streams_15 k5 ?_
      refine r_icmp_ge (tgt := 77) h dX1_streams_18 (by decide) (fun c6 => ?_) (fun c6 => ?_)
      · have hf := ite_t c6 hf
        refine r_iload_n h 3 dX1_streams_77 rfl rfl ?_
        exact r_ireturn h hq dX1_streams_78 ⟨_, rfl, hf⟩
      · have hf := ite_f c6 hf
        refine r_iload_n h 3 dX1_streams_21 rfl rfl ?_
        refine r_aload_n h 0 dX1_streams_22 rfl rfl ?_
        obtain ⟨b7, e8, hf⟩ := hf
        refine g573 h dX1_streams_23 k2 e8 ?_
        obtain ⟨k9, hf⟩ := hf
        obtain ⟨b10, e11, hf⟩ := hf
        refine g329 h dX1_streams_26 k9 e11 ?_
        refine r_iload h 4 dX1_streams_29 rfl ?_
        obtain ⟨j12, b13, e14, hf⟩ := hf
        refine r_aaload h 8 (by decide) (by decide) dX1_streams_31 j12 (v := .ref b13) (by rw [e14]; rfl) ?_
        obtain ⟨k15, hf⟩ := hf
        refine g286 h dX1_streams_32 k15 ?_
        refine r_aload_n h 0 dX1_streams_35 rfl rfl ?_
        obtain ⟨b16, e17, hf⟩ := hf
        refine g573 h dX1_streams_36 k2 e17 ?_
        obtain ⟨k18, hf⟩ := hf
        refine g375 h dX1_streams_39 k18 ?_
        refine r_icmp_ge (tgt := 49) h dX1_streams_42 (by decide) (fun c19 => ?_) (fun c19 => ?_)
        · have hf := ite_t c19 hf
          refine r_iconst (v := 0) h dX1_streams_49 (by decide) ?_
          exact V.sub [0, 1, 2, 4] rfl hf
        · have hf := ite_f c19 hf
          refine r_iconst (v := 1) h dX1_streams_45 (by decide) ?_
          refine r_goto (tgt := 50) h dX1_streams_46 (by decide) ?_
          exact V.sub [0, 1, 2, 4] rfl hf)
    (by
      intro v0 v1 v2 v4 s0 s1 M hf
      show V l G X 0 0 M 50 [(0, .ref v0), (1, .int v1), (2, .int v2), (4, .int v4)] [.int s0, .int s1]
      refine r_iload_n h 2 dX1_streams_50 rfl rfl ?_
      refine r_icmp_eq (tgt := 68) h dX1_streams_51 (by decide) (fun c20 => ?_) (fun c20 => ?_)
      · have hf := ite_t c20 hf
        refine r_iconst (v := 0) h dX1_streams_68 (by decide) ?_
        refine r_iadd h dX1_streams_69 ?_
        refine r_istore_n (lv' := [(3, .int (s1 + 0)), (0, .ref v0), (1, .int v1), (2, .int v2), (4, .int v4)]) h dX1_streams_70 rfl (by decide) rfl ?_
        refine r_iinc (v := v4 + 1) (lv' := [(4, .int (v4 + 1)), (3, .int (s1 + 0)), (0, .ref v0), (1, .int v1), (2, .int v2)]) h 4 dX1_streams_71 rfl rfl (by decide) rfl ?_
        refine r_goto (tgt := 9) h dX1_streams_74 (by decide) ?_
        exact V.sub [2, 3, 4, 1, 0] rfl hf
      · have hf := ite_f c20 hf
        refine r_aload_n h 0 dX1_streams_54 rfl rfl ?_
        refine r_iload h 3 dX1_streams_55 rfl ?_
        obtain ⟨k21, hf⟩ := hf
        refine c645 hl h dX1_streams_57 k21 hf (Nat.le_of_ble_eq_true rfl) (by decide) (by decide) (fun x23 M22 hf => ?_)
        refine r_iload_n h 1 dX1_streams_60 rfl rfl ?_
        refine r_icmp_gt (tgt := 68) h dX1_streams_61 (by decide) (fun c24 => ?_) (fun c24 => ?_)
        · have hf := ite_t c24 hf
          refine r_iconst (v := 0) h dX1_streams_68 (by decide) ?_
          refine r_iadd h dX1_streams_69 ?_
          refine r_istore_n (lv' := [(3, .int (s1 + 0)), (0, .ref v0), (1, .int v1), (2, .int v2), (4, .int v4)]) h dX1_streams_70 rfl (by decide) rfl ?_
          refine r_iinc (v := v4 + 1) (lv' := [(4, .int (v4 + 1)), (3, .int (s1 + 0)), (0, .ref v0), (1, .int v1), (2, .int v2)]) h 4 dX1_streams_71 rfl rfl (by decide) rfl ?_
          refine r_goto (tgt := 9) h dX1_streams_74 (by decide) ?_
          exact V.sub [2, 3, 4, 1, 0] rfl hf
        · have hf := ite_f c24 hf
          refine r_iconst (v := 1) h dX1_streams_64 (by decide) ?_
          refine r_goto (tgt := 69) h dX1_streams_65 (by decide) ?_
          refine r_iadd h dX1_streams_69 ?_
          refine r_istore_n (lv' := [(3, .int (s1 + 1)), (0, .ref v0), (1, .int v1), (2, .int v2), (4, .int v4)]) h dX1_streams_70 rfl (by decide) rfl ?_
          refine r_iinc (v := v4 + 1) (lv' := [(4, .int (v4 + 1)), (3, .int (s1 + 1)), (0, .ref v0), (1, .int v1), (2, .int v2)]) h 4 dX1_streams_71 rfl rfl (by decide) rfl ?_
          refine r_goto (tgt := 9) h dX1_streams_74 (by decide) ?_
          exact V.sub [2, 3, 4, 1, 0] rfl hf)
  refine r_iload_n h 1 dX1_streams_0 rfl rfl ?_
  refine c1144 hl h dX1_streams_1 hf (Nat.le_of_ble_eq_true rfl) (by decide) (by decide) (by decide) (by decide) (fun M1 hf => ?_) (fun q9 E9 M9 hf => r_out h hq hf)
  refine r_iconst (v := 0) h dX1_streams_4 (by decide) ?_
  refine r_istore_n (lv' := [(3, .int 0), (0, .ref a0), (1, .int a1), (2, .int a2)]) h dX1_streams_5 rfl (by decide) rfl ?_
  refine r_iconst (v := 0) h dX1_streams_6 (by decide) ?_
  refine r_istore (lv' := [(4, .int 0), (3, .int 0), (0, .ref a0), (1, .int a1), (2, .int a2)]) h dX1_streams_7 (by decide) rfl ?_
  exact V.sub [2, 3, 4, 1, 0] rfl hf
theorem c1550 {l : Launch} {G : gG} {X : gX} {cc : ByteArray} {nL F L bc bs pc : Nat} {M : gM} {lv : List (Nat × Value)} {rest : List Value} {a0 : Nat} {a1 : Int32} {a2 : Int32} {K : Int32 → gM → Prop} {KX : Addr → String → gM → Prop} (hl : l.stackTraces = false) (h : hX l G X cc nL "GlacierMailLaw" F L) (d : decode cc pc = .ok (.invokevirtual 120, 3)) (hk : kd M a0 = some (.inl 1)) (hf : f_X1_streams a0 a1 a2 M K KX) (hst : (rest.map fun v => v.category).sum ≤ 8) (hF : 31 ≤ F) (hL : 692 ≤ L) (h1 : 1 ≤ bc) (h2 : 6 ≤ bs) (kk : ∀ x M1, K x M1 → V l G X (bc - 1) (bs - 6) M1 (pc + 3) lv (.int x :: rest)) (kx : ∀ q E M1, KX q E M1 → VX l G X (bc - 1) (bs - 6) M1 pc lv q E) : V l G X bc bs M pc lv (.int a2 :: .int a1 :: .ref a0 :: rest) := r_callV (n := 2) (As := [.int a1, .int a2]) h (m_X1_streams hl hf) 1 rfl hk rfl ⟨by decide, by decide, by decide +kernel⟩ d q1550 q1551 q1552 q135 q1553 rfl rfl hst hF hL h1 h2 (kI_go kk) kx
def f_X0_streams (a0 : Nat) (a1 : Int32) (a2 : Int32) (a3 : Nat) (M : gM) (K : Int32 → gM → Prop) : Prop :=
  kd M a0 = some (.inl 1) ∧ f_X1_streams a0 a1 a2 M (fun x3 M2 => inA M2 a3 2 0 ∧ ∀ M5, M5 = sJ M2 a3 (ix 0) (x3.toInt64) → K 0 M5) (fun q9 E9 M9 => (E9 = "java/lang/IllegalArgumentException" ∧ K 1 M9))
set_option maxHeartbeats 4000000 in
theorem m_X0_streams {l : Launch} (hl : l.stackTraces = false) {G : gG} {a0 : Nat} {a1 : Int32} {a2 : Int32} {a3 : Nat} {M : gM} {K : Int32 → gM → Prop} (hf : f_X0_streams a0 a1 a2 a3 M K) : gMet l G yX0_streams (wsW_ yX0_streams cX0_streams 5 (some Jvm.ClassFile.FieldType.int) [(0, 10, 13, 13)]) ({ frames := 31, cells := 1, slots := 6, locals := 692 }) M [.ref a0, .int a1, .int a2, .ref a3] (kI K) kN := by
  refine gm_ofH hl (ret := (some Jvm.ClassFile.FieldType.int)) rfl (Nat.le_of_ble_eq_true rfl) (fun X h hq => ?_)
  have h : hX l G X cX0_streams 5 "GlacierMailLaw" 31 692 := h
  have hf := hf
  show V l G X 1 6 M 0 [(0, .ref a0), (1, .int a1), (2, .int a2), (3, .ref a3)] []
  unfold f_X0_streams at hf
  refine r_aload_n h 3 dX0_streams_0 rfl rfl ?_
  refine r_iconst (v := 0) h dX0_streams_1 (by decide) ?_
  refine r_aload_n h 0 dX0_streams_2 rfl rfl ?_
  refine r_iload_n h 1 dX0_streams_3 rfl rfl ?_
  refine r_iload_n h 2 dX0_streams_4 rfl rfl ?_
  obtain ⟨k1, hf⟩ := hf
  refine c1550 hl h dX0_streams_5 k1 hf (Nat.le_of_ble_eq_true rfl) (by decide) (by decide) (by decide) (by decide) (fun x3 M2 hf => ?_) (fun q9 E9 M9 hf => ?_)
  · skip
    refine r_i2l h dX0_streams_8 ?_
    obtain ⟨j4, hf⟩ := hf
    refine r_lastore h dX0_streams_9 j4 ?_
    refine r_goW (fun M5 eM5 => ?_)
    have hf := hf M5 eM5
    refine r_goto (tgt := 17) h dX0_streams_10 (by decide) ?_
    refine r_iconst (v := 0) h dX0_streams_17 (by decide) ?_
    exact r_ireturn h hq dX0_streams_18 ⟨_, rfl, hf⟩
  · rcases hf with ⟨rfl, hf⟩
    · refine r_catch h hq 0 (E := "java/lang/IllegalArgumentException") (nm := "java/lang/IllegalArgumentException") rfl (fun z hz => nomatch hz) (by decide) (by decide) q822 (List.mem_of_getElem? (i := 5) rfl) ?_
      refine r_astore (lv' := [(4, .ref q9), (0, .ref a0), (1, .int a1), (2, .int a2), (3, .ref a3)]) h dX0_streams_13 (by decide) rfl ?_
      refine r_iconst (v := 1) h dX0_streams_15 (by decide) ?_
      exact r_ireturn h hq dX0_streams_16 ⟨_, rfl, hf⟩
theorem c1547 {l : Launch} {G : gG} {X : gX} {cc : ByteArray} {nL F L bc bs pc : Nat} {M : gM} {lv : List (Nat × Value)} {rest : List Value} {a0 : Nat} {a1 : Int32} {a2 : Int32} {a3 : Nat} {K : Int32 → gM → Prop} (hl : l.stackTraces = false) (h : hX l G X cc nL "GlacierMailLaw" F L) (d : decode cc pc = .ok (.invokestatic 275, 3)) (hf : f_X0_streams a0 a1 a2 a3 M K) (hst : (rest.map fun v => v.category).sum ≤ 8) (hF : 32 ≤ F) (hL : 716 ≤ L) (h1 : 1 ≤ bc) (h2 : 6 ≤ bs) (kk : ∀ x M1, K x M1 → V l G X (bc - 1) (bs - 6) M1 (pc + 3) lv (.int x :: rest)) : V l G X bc bs M pc lv (.ref a3 :: .int a2 :: .int a1 :: .ref a0 :: rest) := r_callSH (n := 4) (As := [.ref a0, .int a1, .int a2, .ref a3]) h (m_X0_streams hl hf) ⟨by decide, by decide, by decide +kernel⟩ d q1547 q1548 q134 q1549 rfl rfl hst hF hL h1 h2 (kI_go kk) kN_go
def f_X1_range (a0 : Nat) (a1 : Int32) (a2 : Int32) (M : gM) (K : Int32 → gM → Prop) (KX : Addr → String → gM → Prop) : Prop :=
  kd M a0 = some (.inl 1) ∧ f_X1_isLane a0 a1 M (fun M2 => f_X1_isYear a2 M2 (fun M3 => kd M3 a0 = some (.inl 1) ∧ ∃ b5, rv M3 a0 4 = some b5 ∧ kd M3 b5 = some (.inl 9) ∧ f_X9_goes b5 a1 0 a2 0 M3 (fun b9 M8 => kd M8 b9 = some (.inl 9) ∧ if (iv M8 b9 3) = 2147483647 then K (-1) M8 else K ((iv M8 b9 3) - a2) M8)) KX) KX
set_option maxHeartbeats 4000000 in
theorem m_X1_range {l : Launch} (hl : l.stackTraces = false) {G : gG} {a0 : Nat} {a1 : Int32} {a2 : Int32} {M : gM} {K : Int32 → gM → Prop} {KX : Addr → String → gM → Prop} (hf : f_X1_range a0 a1 a2 M K KX) : gMet l G yX1_range (ws_ yX1_range cX1_range 4 (some Jvm.ClassFile.FieldType.int)) ({ frames := 28, cells := 2, slots := 12, locals := 626 }) M [.ref a0, .int a1, .int a2] (kI K) KX := by
  refine gm_of hl (ret := (some Jvm.ClassFile.FieldType.int)) rfl (Nat.le_of_ble_eq_true rfl) (fun X h hq => ?_)
  have h : hX l G X cX1_range 4 "GlacierMail" 28 626 := h
  have hf := hf
  show V l G X 2 12 M 0 [(0, .ref a0), (1, .int a1), (2, .int a2)] []
  unfold f_X1_range at hf
  refine r_aload_n h 0 dX1_range_0 rfl rfl ?_
  refine r_iload_n h 1 dX1_range_1 rfl rfl ?_
  obtain ⟨k1, hf⟩ := hf
  refine c1189 hl h dX1_range_2 k1 hf (Nat.le_of_ble_eq_true rfl) (by decide) (by decide) (by decide) (by decide) (fun M2 hf => ?_) (fun q9 E9 M9 hf => r_out h hq hf)
  refine r_iload_n h 2 dX1_range_5 rfl rfl ?_
  refine c1144 hl h dX1_range_6 hf (Nat.le_of_ble_eq_true rfl) (by decide) (by decide) (by decide) (by decide) (fun M3 hf => ?_) (fun q9 E9 M9 hf => r_out h hq hf)
  refine r_aload_n h 0 dX1_range_9 rfl rfl ?_
  obtain ⟨k4, hf⟩ := hf
  obtain ⟨b5, e6, hf⟩ := hf
  refine g577 h dX1_range_10 k4 e6 ?_
  refine r_iload_n h 1 dX1_range_13 rfl rfl ?_
  refine r_iconst (v := 0) h dX1_range_14 (by decide) ?_
  refine r_iload_n h 2 dX1_range_15 rfl rfl ?_
  refine r_iconst (v := 0) h dX1_range_16 (by decide) ?_
  obtain ⟨k7, hf⟩ := hf
  refine c1380 hl h dX1_range_17 k7 hf (Nat.le_of_ble_eq_true rfl) (by decide) (by decide) (fun b9 M8 hf => ?_)
  obtain ⟨k10, hf⟩ := hf
  refine g559 h dX1_range_20 k10 ?_
  refine r_istore_n (lv' := [(3, .int (iv M8 b9 3)), (0, .ref a0), (1, .int a1), (2, .int a2)]) h dX1_range_23 rfl (by decide) rfl ?_
  refine r_iload_n h 0 dX1_range_24 rfl rfl ?_
  refine r_ldc (v := 2147483647) h dX1_range_25 q743 ?_
  refine r_icmp_ne (tgt := 34) h dX1_range_27 (by decide) (fun c11 => ?_) (fun c11 => ?_)
  · have hf := ite_f c11 hf
    refine r_iload_n h 0 dX1_range_34 rfl rfl ?_
    refine r_iload_n h 3 dX1_range_35 rfl rfl ?_
    refine r_isub h dX1_range_36 ?_
    exact r_ireturn h hq dX1_range_37 ⟨_, rfl, hf⟩
  · have hf := ite_t c11 hf
    refine r_iconst (v := (-1)) h dX1_range_30 (by decide) ?_
    refine r_goto (tgt := 37) h dX1_range_31 (by decide) ?_
    exact r_ireturn h hq dX1_range_37 ⟨_, rfl, hf⟩
theorem c1557 {l : Launch} {G : gG} {X : gX} {cc : ByteArray} {nL F L bc bs pc : Nat} {M : gM} {lv : List (Nat × Value)} {rest : List Value} {a0 : Nat} {a1 : Int32} {a2 : Int32} {K : Int32 → gM → Prop} {KX : Addr → String → gM → Prop} (hl : l.stackTraces = false) (h : hX l G X cc nL "GlacierMailLaw" F L) (d : decode cc pc = .ok (.invokevirtual 123, 3)) (hk : kd M a0 = some (.inl 1)) (hf : f_X1_range a0 a1 a2 M K KX) (hst : (rest.map fun v => v.category).sum ≤ 8) (hF : 29 ≤ F) (hL : 649 ≤ L) (h1 : 2 ≤ bc) (h2 : 12 ≤ bs) (kk : ∀ x M1, K x M1 → V l G X (bc - 2) (bs - 12) M1 (pc + 3) lv (.int x :: rest)) (kx : ∀ q E M1, KX q E M1 → VX l G X (bc - 2) (bs - 12) M1 pc lv q E) : V l G X bc bs M pc lv (.int a2 :: .int a1 :: .ref a0 :: rest) := r_callV (n := 2) (As := [.int a1, .int a2]) h (m_X1_range hl hf) 1 rfl hk rfl ⟨by decide, by decide, by decide +kernel⟩ d q1557 q1558 q1559 q135 q1560 rfl rfl hst hF hL h1 h2 (kI_go kk) kx
def f_X0_range (a0 : Nat) (a1 : Int32) (a2 : Int32) (a3 : Nat) (M : gM) (K : Int32 → gM → Prop) : Prop :=
  kd M a0 = some (.inl 1) ∧ f_X1_range a0 a1 a2 M (fun x3 M2 => inA M2 a3 2 0 ∧ ∀ M5, M5 = sJ M2 a3 (ix 0) (x3.toInt64) → K 0 M5) (fun q9 E9 M9 => (E9 = "java/lang/IndexOutOfBoundsException" ∧ K 1 M9) ∨ (E9 = "java/lang/IllegalArgumentException" ∧ K 2 M9))
set_option maxHeartbeats 4000000 in
theorem m_X0_range {l : Launch} (hl : l.stackTraces = false) {G : gG} {a0 : Nat} {a1 : Int32} {a2 : Int32} {a3 : Nat} {M : gM} {K : Int32 → gM → Prop} (hf : f_X0_range a0 a1 a2 a3 M K) : gMet l G yX0_range (wsW_ yX0_range cX0_range 5 (some Jvm.ClassFile.FieldType.int) [(0, 10, 13, 28), (0, 10, 17, 13)]) ({ frames := 29, cells := 2, slots := 12, locals := 649 }) M [.ref a0, .int a1, .int a2, .ref a3] (kI K) kN := by
  refine gm_ofH hl (ret := (some Jvm.ClassFile.FieldType.int)) rfl (Nat.le_of_ble_eq_true rfl) (fun X h hq => ?_)
  have h : hX l G X cX0_range 5 "GlacierMailLaw" 29 649 := h
  have hf := hf
  show V l G X 2 12 M 0 [(0, .ref a0), (1, .int a1), (2, .int a2), (3, .ref a3)] []
  unfold f_X0_range at hf
  refine r_aload_n h 3 dX0_range_0 rfl rfl ?_
  refine r_iconst (v := 0) h dX0_range_1 (by decide) ?_
  refine r_aload_n h 0 dX0_range_2 rfl rfl ?_
  refine r_iload_n h 1 dX0_range_3 rfl rfl ?_
  refine r_iload_n h 2 dX0_range_4 rfl rfl ?_
  obtain ⟨k1, hf⟩ := hf
  refine c1557 hl h dX0_range_5 k1 hf (Nat.le_of_ble_eq_true rfl) (by decide) (by decide) (by decide) (by decide) (fun x3 M2 hf => ?_) (fun q9 E9 M9 hf => ?_)
  · skip
    refine r_i2l h dX0_range_8 ?_
    obtain ⟨j4, hf⟩ := hf
    refine r_lastore h dX0_range_9 j4 ?_
    refine r_goW (fun M5 eM5 => ?_)
    have hf := hf M5 eM5
    refine r_goto (tgt := 21) h dX0_range_10 (by decide) ?_
    refine r_iconst (v := 0) h dX0_range_21 (by decide) ?_
    exact r_ireturn h hq dX0_range_22 ⟨_, rfl, hf⟩
  · rcases hf with ⟨rfl, hf⟩ | ⟨rfl, hf⟩
    · refine r_catch h hq 0 (E := "java/lang/IndexOutOfBoundsException") (nm := "java/lang/IndexOutOfBoundsException") rfl (fun z hz => nomatch hz) (by decide) (by decide) q1153 (List.mem_of_getElem? (i := 8) rfl) ?_
      refine r_astore (lv' := [(4, .ref q9), (0, .ref a0), (1, .int a1), (2, .int a2), (3, .ref a3)]) h dX0_range_13 (by decide) rfl ?_
      refine r_iconst (v := 1) h dX0_range_15 (by decide) ?_
      exact r_ireturn h hq dX0_range_16 ⟨_, rfl, hf⟩
    · refine r_catch h hq 1 (E := "java/lang/IllegalArgumentException") (nm := "java/lang/IllegalArgumentException") rfl (List.forall_mem_cons.mpr ⟨Or.inr ⟨by decide, "java/lang/IndexOutOfBoundsException", q1153, List.mem_of_getElem? (i := 16) rfl⟩, List.forall_mem_nil _⟩) (by decide) (by decide) q822 (List.mem_of_getElem? (i := 5) rfl) ?_
      refine r_astore (lv' := [(4, .ref q9), (0, .ref a0), (1, .int a1), (2, .int a2), (3, .ref a3)]) h dX0_range_17 (by decide) rfl ?_
      refine r_iconst (v := 2) h dX0_range_19 (by decide) ?_
      exact r_ireturn h hq dX0_range_20 ⟨_, rfl, hf⟩
theorem c1554 {l : Launch} {G : gG} {X : gX} {cc : ByteArray} {nL F L bc bs pc : Nat} {M : gM} {lv : List (Nat × Value)} {rest : List Value} {a0 : Nat} {a1 : Int32} {a2 : Int32} {a3 : Nat} {K : Int32 → gM → Prop} (hl : l.stackTraces = false) (h : hX l G X cc nL "GlacierMailLaw" F L) (d : decode cc pc = .ok (.invokestatic 278, 3)) (hf : f_X0_range a0 a1 a2 a3 M K) (hst : (rest.map fun v => v.category).sum ≤ 8) (hF : 30 ≤ F) (hL : 673 ≤ L) (h1 : 2 ≤ bc) (h2 : 12 ≤ bs) (kk : ∀ x M1, K x M1 → V l G X (bc - 2) (bs - 12) M1 (pc + 3) lv (.int x :: rest)) : V l G X bc bs M pc lv (.ref a3 :: .int a2 :: .int a1 :: .ref a0 :: rest) := r_callSH (n := 4) (As := [.ref a0, .int a1, .int a2, .ref a3]) h (m_X0_range hl hf) ⟨by decide, by decide, by decide +kernel⟩ d q1554 q1555 q134 q1556 rfl rfl hst hF hL h1 h2 (kI_go kk) kN_go
def f_X1_swiftest (a0 : Nat) (a1 : Int32) (a2 : Int32) (M : gM) (K : Int32 → gM → Prop) (KX : Addr → String → gM → Prop) : Prop :=
  ∀ P18 : Nat → Int32 → Int32 → Int32 → Int32 → Int32 → gM → Prop,
  (∀ (v0 : Nat) (v1 : Int32) (v2 : Int32) (v3 : Int32) (v4 : Int32) (v5 : Int32) (M : gM), (kd M v0 = some (.inl 1) ∧ ∃ b5, rv M v0 1 = some b5 ∧ kd M b5 = some (.inl 3) ∧ if (iv M b5 9) ≤ v5 then K v3 M else ∃ b9, rv M v0 4 = some b9 ∧ kd M b9 = some (.inl 9) ∧ f_X9_goes b9 v5 v1 v2 0 M (fun b13 M12 => kd M12 b13 = some (.inl 9) ∧ if (iv M12 b13 3) < v4 then P18 v0 v1 v2 v5 (iv M12 b13 3) (v5 + 1) M12 else P18 v0 v1 v2 v3 v4 (v5 + 1) M12)) → P18 v0 v1 v2 v3 v4 v5 M) →
  kd M a0 = some (.inl 1) ∧ f_X1_isRow a0 a1 M (fun M2 => f_X1_isYear a2 M2 (fun M3 => P18 a0 a1 a2 (-1) 2147483647 0 M3) KX) KX
set_option maxHeartbeats 4000000 in
theorem m_X1_swiftest {l : Launch} (hl : l.stackTraces = false) {G : gG} {a0 : Nat} {a1 : Int32} {a2 : Int32} {M : gM} {K : Int32 → gM → Prop} {KX : Addr → String → gM → Prop} (hf : f_X1_swiftest a0 a1 a2 M K KX) : gMet l G yX1_swiftest (ws_ yX1_swiftest cX1_swiftest 7 (some Jvm.ClassFile.FieldType.int)) ({ frames := 28, cells := 2, slots := 12, locals := 626 }) M [.ref a0, .int a1, .int a2] (kI K) KX := by
  refine gm_of hl (ret := (some Jvm.ClassFile.FieldType.int)) rfl (Nat.le_of_ble_eq_true rfl) (fun X h hq => ?_)
  have h : hX l G X cX1_swiftest 7 "GlacierMail" 28 626 := h
  have hf := hf
  show V l G X 2 12 M 0 [(0, .ref a0), (1, .int a1), (2, .int a2)] []
  have hf := hf
    (fun v0 v1 v2 v3 v4 v5 M => V l G X 0 0 M 18 [(0, .ref v0), (1, .int v1), (2, .int v2), (3, .int v3), (4, .int v4), (5, .int v5)] [])
    (by
      intro v0 v1 v2 v3 v4 v5 M hf
      show V l G X 0 0 M 18 [(0, .ref v0), (1, .int v1), (2, .int v2), (3, .int v3), (4, .int v4), (5, .int v5)] []
      refine r_iload h 5 dX1_swiftest_18 rfl ?_
      refine r_aload_n h 0 dX1_swiftest_20 rfl rfl ?_
      obtain ⟨k4, hf⟩ := hf
      obtain ⟨b5, e6, hf⟩ := hf
      refine g573 h dX1_swiftest_21 k4 e6 ?_
      obtain ⟨k7, hf⟩ := hf
      refine g342 h dX1_swiftest_24 k7 ?_
      refine r_icmp_ge (tgt := 70) h dX1_swiftest_27 (by decide) (fun c8 => ?_) (fun c8 => ?_)
      · have hf := ite_t c8 hf
        refine r_iload_n h 3 dX1_swiftest_70 rfl rfl ?_
        exact r_ireturn h hq dX1_swiftest_71 ⟨_, rfl, hf⟩
      · have hf := ite_f c8 hf
        refine r_aload_n h 0 dX1_swiftest_30 rfl rfl ?_
        obtain ⟨b9, e10, hf⟩ := hf
        refine g577 h dX1_swiftest_31 k4 e10 ?_
        refine r_iload h 5 dX1_swiftest_34 rfl ?_
        refine r_iload_n h 1 dX1_swiftest_36 rfl rfl ?_
        refine r_iload_n h 2 dX1_swiftest_37 rfl rfl ?_
        refine r_iconst (v := 0) h dX1_swiftest_38 (by decide) ?_
        obtain ⟨k11, hf⟩ := hf
        refine c1380 hl h dX1_swiftest_39 k11 hf (Nat.le_of_ble_eq_true rfl) (by decide) (by decide) (fun b13 M12 hf => ?_)
        obtain ⟨k14, hf⟩ := hf
        refine g559 h dX1_swiftest_42 k14 ?_
        refine r_istore (lv' := [(6, .int (iv M12 b13 3)), (0, .ref v0), (1, .int v1), (2, .int v2), (3, .int v3), (4, .int v4), (5, .int v5)]) h dX1_swiftest_45 (by decide) rfl ?_
        refine r_iload h 0 dX1_swiftest_47 rfl ?_
        refine r_iload h 5 dX1_swiftest_49 rfl ?_
        refine r_icmp_lt (tgt := 57) h dX1_swiftest_51 (by decide) (fun c15 => ?_) (fun c15 => ?_)
        · have hf := ite_t c15 hf
          refine r_iload h 0 dX1_swiftest_57 rfl ?_
          refine r_istore (lv' := [(4, .int (iv M12 b13 3)), (6, .int (iv M12 b13 3)), (0, .ref v0), (1, .int v1), (2, .int v2), (3, .int v3), (5, .int v5)]) h dX1_swiftest_59 (by decide) rfl ?_
          refine r_iload h 6 dX1_swiftest_61 rfl ?_
          refine r_istore_n (lv' := [(3, .int v5), (4, .int (iv M12 b13 3)), (6, .int (iv M12 b13 3)), (0, .ref v0), (1, .int v1), (2, .int v2), (5, .int v5)]) h dX1_swiftest_63 rfl (by decide) rfl ?_
          refine r_iinc (v := v5 + 1) (lv' := [(5, .int (v5 + 1)), (3, .int v5), (4, .int (iv M12 b13 3)), (6, .int (iv M12 b13 3)), (0, .ref v0), (1, .int v1), (2, .int v2)]) h 6 dX1_swiftest_64 rfl rfl (by decide) rfl ?_
          refine r_goto (tgt := 18) h dX1_swiftest_67 (by decide) ?_
          exact V.sub [4, 5, 6, 1, 2, 0] rfl hf
        · have hf := ite_f c15 hf
          refine r_goto (tgt := 64) h dX1_swiftest_54 (by decide) ?_
          refine r_iinc (v := v5 + 1) (lv' := [(5, .int (v5 + 1)), (6, .int (iv M12 b13 3)), (0, .ref v0), (1, .int v1), (2, .int v2), (3, .int v3), (4, .int v4)]) h 6 dX1_swiftest_64 rfl rfl (by decide) rfl ?_
          refine r_goto (tgt := 18) h dX1_swiftest_67 (by decide) ?_
          exact V.sub [2, 3, 4, 5, 6, 0] rfl hf)
  refine r_aload_n h 0 dX1_swiftest_0 rfl rfl ?_
  refine r_iload_n h 1 dX1_swiftest_1 rfl rfl ?_
  obtain ⟨k1, hf⟩ := hf
  refine c1211 hl h dX1_swiftest_2 k1 hf (Nat.le_of_ble_eq_true rfl) (by decide) (by decide) (by decide) (by decide) (fun M2 hf => ?_) (fun q9 E9 M9 hf => r_out h hq hf)
  refine r_iload_n h 2 dX1_swiftest_5 rfl rfl ?_
  refine c1144 hl h dX1_swiftest_6 hf (Nat.le_of_ble_eq_true rfl) (by decide) (by decide) (by decide) (by decide) (fun M3 hf => ?_) (fun q9 E9 M9 hf => r_out h hq hf)
  refine r_iconst (v := (-1)) h dX1_swiftest_9 (by decide) ?_
  refine r_istore_n (lv' := [(3, .int (-1)), (0, .ref a0), (1, .int a1), (2, .int a2)]) h dX1_swiftest_10 rfl (by decide) rfl ?_
  refine r_ldc (v := 2147483647) h dX1_swiftest_11 q743 ?_
  refine r_istore (lv' := [(4, .int 2147483647), (3, .int (-1)), (0, .ref a0), (1, .int a1), (2, .int a2)]) h dX1_swiftest_13 (by decide) rfl ?_
  refine r_iconst (v := 0) h dX1_swiftest_15 (by decide) ?_
  refine r_istore (lv' := [(5, .int 0), (4, .int 2147483647), (3, .int (-1)), (0, .ref a0), (1, .int a1), (2, .int a2)]) h dX1_swiftest_16 (by decide) rfl ?_
  exact V.sub [3, 4, 5, 2, 1, 0] rfl hf
theorem c1564 {l : Launch} {G : gG} {X : gX} {cc : ByteArray} {nL F L bc bs pc : Nat} {M : gM} {lv : List (Nat × Value)} {rest : List Value} {a0 : Nat} {a1 : Int32} {a2 : Int32} {K : Int32 → gM → Prop} {KX : Addr → String → gM → Prop} (hl : l.stackTraces = false) (h : hX l G X cc nL "GlacierMailLaw" F L) (d : decode cc pc = .ok (.invokevirtual 126, 3)) (hk : kd M a0 = some (.inl 1)) (hf : f_X1_swiftest a0 a1 a2 M K KX) (hst : (rest.map fun v => v.category).sum ≤ 8) (hF : 29 ≤ F) (hL : 652 ≤ L) (h1 : 2 ≤ bc) (h2 : 12 ≤ bs) (kk : ∀ x M1, K x M1 → V l G X (bc - 2) (bs - 12) M1 (pc + 3) lv (.int x :: rest)) (kx : ∀ q E M1, KX q E M1 → VX l G X (bc - 2) (bs - 12) M1 pc lv q E) : V l G X bc bs M pc lv (.int a2 :: .int a1 :: .ref a0 :: rest) := r_callV (n := 2) (As := [.int a1, .int a2]) h (m_X1_swiftest hl hf) 1 rfl hk rfl ⟨by decide, by decide, by decide +kernel⟩ d q1564 q1565 q1566 q135 q1567 rfl rfl hst hF hL h1 h2 (kI_go kk) kx
def f_X0_swiftest (a0 : Nat) (a1 : Int32) (a2 : Int32) (a3 : Nat) (M : gM) (K : Int32 → gM → Prop) : Prop :=
  kd M a0 = some (.inl 1) ∧ f_X1_swiftest a0 a1 a2 M (fun x3 M2 => inA M2 a3 2 0 ∧ ∀ M5, M5 = sJ M2 a3 (ix 0) (x3.toInt64) → K 0 M5) (fun q9 E9 M9 => (E9 = "java/lang/IndexOutOfBoundsException" ∧ K 1 M9) ∨ (E9 = "java/lang/IllegalArgumentException" ∧ K 2 M9))
set_option maxHeartbeats 4000000 in
theorem m_X0_swiftest {l : Launch} (hl : l.stackTraces = false) {G : gG} {a0 : Nat} {a1 : Int32} {a2 : Int32} {a3 : Nat} {M : gM} {K : Int32 → gM → Prop} (hf : f_X0_swiftest a0 a1 a2 a3 M K) : gMet l G yX0_swiftest (wsW_ yX0_swiftest cX0_swiftest 5 (some Jvm.ClassFile.FieldType.int) [(0, 10, 13, 28), (0, 10, 17, 13)]) ({ frames := 29, cells := 2, slots := 12, locals := 652 }) M [.ref a0, .int a1, .int a2, .ref a3] (kI K) kN := by
  refine gm_ofH hl (ret := (some Jvm.ClassFile.FieldType.int)) rfl (Nat.le_of_ble_eq_true rfl) (fun X h hq => ?_)
  have h : hX l G X cX0_swiftest 5 "GlacierMailLaw" 29 652 := h
  have hf := hf
  show V l G X 2 12 M 0 [(0, .ref a0), (1, .int a1), (2, .int a2), (3, .ref a3)] []
  unfold f_X0_swiftest at hf
  refine r_aload_n h 3 dX0_swiftest_0 rfl rfl ?_
  refine r_iconst (v := 0) h dX0_swiftest_1 (by decide) ?_
  refine r_aload_n h 0 dX0_swiftest_2 rfl rfl ?_
  refine r_iload_n h 1 dX0_swiftest_3 rfl rfl ?_
  refine r_iload_n h 2 dX0_swiftest_4 rfl rfl ?_
  obtain ⟨k1, hf⟩ := hf
  refine c1564 hl h dX0_swiftest_5 k1 hf (Nat.le_of_ble_eq_true rfl) (by decide) (by decide) (by decide) (by decide) (fun x3 M2 hf => ?_) (fun q9 E9 M9 hf => ?_)
  · skip
    refine r_i2l h dX0_swiftest_8 ?_
    obtain ⟨j4, hf⟩ := hf
    refine r_lastore h dX0_swiftest_9 j4 ?_
    refine r_goW (fun M5 eM5 => ?_)
    have hf := hf M5 eM5
    refine r_goto (tgt := 21) h dX0_swiftest_10 (by decide) ?_
    refine r_iconst (v := 0) h dX0_swiftest_21 (by decide) ?_
    exact r_ireturn h hq dX0_swiftest_22 ⟨_, rfl, hf⟩
  · rcases hf with ⟨rfl, hf⟩ | ⟨rfl, hf⟩
    · refine r_catch h hq 0 (E := "java/lang/IndexOutOfBoundsException") (nm := "java/lang/IndexOutOfBoundsException") rfl (fun z hz => nomatch hz) (by decide) (by decide) q1153 (List.mem_of_getElem? (i := 8) rfl) ?_
      refine r_astore (lv' := [(4, .ref q9), (0, .ref a0), (1, .int a1), (2, .int a2), (3, .ref a3)]) h dX0_swiftest_13 (by decide) rfl ?_
      refine r_iconst (v := 1) h dX0_swiftest_15 (by decide) ?_
      exact r_ireturn h hq dX0_swiftest_16 ⟨_, rfl, hf⟩
    · refine r_catch h hq 1 (E := "java/lang/IllegalArgumentException") (nm := "java/lang/IllegalArgumentException") rfl (List.forall_mem_cons.mpr ⟨Or.inr ⟨by decide, "java/lang/IndexOutOfBoundsException", q1153, List.mem_of_getElem? (i := 16) rfl⟩, List.forall_mem_nil _⟩) (by decide) (by decide) q822 (List.mem_of_getElem? (i := 5) rfl) ?_
      refine r_astore (lv' := [(4, .ref q9), (0, .ref a0), (1, .int a1), (2, .int a2), (3, .ref a3)]) h dX0_swiftest_17 (by decide) rfl ?_
      refine r_iconst (v := 2) h dX0_swiftest_19 (by decide) ?_
      exact r_ireturn h hq dX0_swiftest_20 ⟨_, rfl, hf⟩
theorem c1561 {l : Launch} {G : gG} {X : gX} {cc : ByteArray} {nL F L bc bs pc : Nat} {M : gM} {lv : List (Nat × Value)} {rest : List Value} {a0 : Nat} {a1 : Int32} {a2 : Int32} {a3 : Nat} {K : Int32 → gM → Prop} (hl : l.stackTraces = false) (h : hX l G X cc nL "GlacierMailLaw" F L) (d : decode cc pc = .ok (.invokestatic 281, 3)) (hf : f_X0_swiftest a0 a1 a2 a3 M K) (hst : (rest.map fun v => v.category).sum ≤ 8) (hF : 30 ≤ F) (hL : 676 ≤ L) (h1 : 2 ≤ bc) (h2 : 12 ≤ bs) (kk : ∀ x M1, K x M1 → V l G X (bc - 2) (bs - 12) M1 (pc + 3) lv (.int x :: rest)) : V l G X bc bs M pc lv (.ref a3 :: .int a2 :: .int a1 :: .ref a0 :: rest) := r_callSH (n := 4) (As := [.ref a0, .int a1, .int a2, .ref a3]) h (m_X0_swiftest hl hf) ⟨by decide, by decide, by decide +kernel⟩ d q1561 q1562 q134 q1563 rfl rfl hst hF hL h1 h2 (kI_go kk) kN_go
def f_X1_bare (a0 : Nat) (a1 : Int32) (M : gM) (K : Int32 → gM → Prop) (KX : Addr → String → gM → Prop) : Prop :=
  ∀ P8 : Nat → Int32 → Int32 → Int32 → gM → Prop,
  (∀ (v0 : Nat) (v1 : Int32) (v2 : Int32) (v3 : Int32) (M : gM), (kd M v0 = some (.inl 1) ∧ ∃ b3, rv M v0 1 = some b3 ∧ kd M b3 = some (.inl 3) ∧ if (iv M b3 14) ≤ v3 then K v2 M else ∃ b7, rv M v0 4 = some b7 ∧ ∃ b9, rv M v0 1 = some b9 ∧ kd M b9 = some (.inl 3) ∧ ∃ b12, rv M b9 3 = some b12 ∧ inA M b12 8 v3 ∧ ∃ b15, rv M b12 (ix v3) = some b15 ∧ kd M b7 = some (.inl 9) ∧ f_X9_of b7 b15 M (fun b19 M18 => kd M18 b19 = some (.inl 9) ∧ f_X9_isBare b19 v1 M18 (fun x22 M21 => if x22 = 0 then P8 v0 v1 (v2 ||| 0) (v3 + 1) M21 else P8 v0 v1 (v2 ||| ((1 : Int32) <<< (v3 &&& 31))) (v3 + 1) M21))) → P8 v0 v1 v2 v3 M) →
  f_X1_isYear a1 M (fun M1 => P8 a0 a1 0 0 M1) KX
set_option maxHeartbeats 4000000 in
theorem m_X1_bare {l : Launch} (hl : l.stackTraces = false) {G : gG} {a0 : Nat} {a1 : Int32} {M : gM} {K : Int32 → gM → Prop} {KX : Addr → String → gM → Prop} (hf : f_X1_bare a0 a1 M K KX) : gMet l G yX1_bare (ws_ yX1_bare cX1_bare 4 (some Jvm.ClassFile.FieldType.int)) ({ frames := 29, cells := 1, slots := 6, locals := 647 }) M [.ref a0, .int a1] (kI K) KX := by
  refine gm_of hl (ret := (some Jvm.ClassFile.FieldType.int)) rfl (Nat.le_of_ble_eq_true rfl) (fun X h hq => ?_)
  have h : hX l G X cX1_bare 4 "GlacierMail" 29 647 := h
  have hf := hf
  show V l G X 1 6 M 0 [(0, .ref a0), (1, .int a1)] []
  have hf := hf
    (fun v0 v1 v2 v3 M => V l G X 0 0 M 8 [(0, .ref v0), (1, .int v1), (2, .int v2), (3, .int v3)] [])
    (by
      intro v0 v1 v2 v3 M hf
      show V l G X 0 0 M 8 [(0, .ref v0), (1, .int v1), (2, .int v2), (3, .int v3)] []
      refine r_iload_n h 3 dX1_bare_8 rfl rfl ?_
      refine r_aload_n h 0 dX1_bare_9 rfl rfl ?_
      obtain ⟨k2, hf⟩ := hf
      obtain ⟨b3, e4, hf⟩ := hf
      refine g573 h dX1_bare_10 k2 e4 ?_
      obtain ⟨k5, hf⟩ := hf
      refine g358 h dX1_bare_13 k5 ?_
      refine r_icmp_ge (tgt := 58) h dX1_bare_16 (by decide) (fun c6 => ?_) (fun c6 => ?_)
      · have hf := ite_t c6 hf
        refine r_iload_n h 2 dX1_bare_58 rfl rfl ?_
        exact r_ireturn h hq dX1_bare_59 ⟨_, rfl, hf⟩
      · have hf := ite_f c6 hf
        refine r_iload_n h 2 dX1_bare_19 rfl rfl ?_
        refine r_aload_n h 0 dX1_bare_20 rfl rfl ?_
        obtain ⟨b7, e8, hf⟩ := hf
        refine g577 h dX1_bare_21 k2 e8 ?_
        refine r_aload_n h 0 dX1_bare_24 rfl rfl ?_
        obtain ⟨b9, e10, hf⟩ := hf
        refine g573 h dX1_bare_25 k2 e10 ?_
        obtain ⟨k11, hf⟩ := hf
        obtain ⟨b12, e13, hf⟩ := hf
        refine g329 h dX1_bare_28 k11 e13 ?_
        refine r_iload_n h 3 dX1_bare_31 rfl rfl ?_
        obtain ⟨j14, b15, e16, hf⟩ := hf
        refine r_aaload h 8 (by decide) (by decide) dX1_bare_32 j14 (v := .ref b15) (by rw [e16]; rfl) ?_
        obtain ⟨k17, hf⟩ := hf
        refine c649 hl h dX1_bare_33 k17 hf (Nat.le_of_ble_eq_true rfl) (by decide) (by decide) (fun b19 M18 hf => ?_)
        refine r_iload_n h 1 dX1_bare_36 rfl rfl ?_
        obtain ⟨k20, hf⟩ := hf
        refine c1277 hl h dX1_bare_37 k20 hf (Nat.le_of_ble_eq_true rfl) (by decide) (by decide) (fun x22 M21 hf => ?_)
        refine r_if_eq (tgt := 49) h dX1_bare_40 (by decide) (fun c23 => ?_) (fun c23 => ?_)
        · have hf := ite_t c23 hf
          refine r_iconst (v := 0) h dX1_bare_49 (by decide) ?_
          refine r_ior h dX1_bare_50 ?_
          refine r_istore_n (lv' := [(2, .int (v2 ||| 0)), (0, .ref v0), (1, .int v1), (3, .int v3)]) h dX1_bare_51 rfl (by decide) rfl ?_
          refine r_iinc (v := v3 + 1) (lv' := [(3, .int (v3 + 1)), (2, .int (v2 ||| 0)), (0, .ref v0), (1, .int v1)]) h 3 dX1_bare_52 rfl rfl (by decide) rfl ?_
          refine r_goto (tgt := 8) h dX1_bare_55 (by decide) ?_
          exact V.sub [2, 3, 1, 0] rfl hf
        · have hf := ite_f c23 hf
          refine r_iconst (v := 1) h dX1_bare_43 (by decide) ?_
          refine r_iload_n h 3 dX1_bare_44 rfl rfl ?_
          refine r_ishl h dX1_bare_45 ?_
          refine r_goto (tgt := 50) h dX1_bare_46 (by decide) ?_
          refine r_ior h dX1_bare_50 ?_
          refine r_istore_n (lv' := [(2, .int (v2 ||| ((1 : Int32) <<< (v3 &&& 31)))), (0, .ref v0), (1, .int v1), (3, .int v3)]) h dX1_bare_51 rfl (by decide) rfl ?_
          refine r_iinc (v := v3 + 1) (lv' := [(3, .int (v3 + 1)), (2, .int (v2 ||| ((1 : Int32) <<< (v3 &&& 31)))), (0, .ref v0), (1, .int v1)]) h 3 dX1_bare_52 rfl rfl (by decide) rfl ?_
          refine r_goto (tgt := 8) h dX1_bare_55 (by decide) ?_
          exact V.sub [2, 3, 1, 0] rfl hf)
  refine r_iload_n h 1 dX1_bare_0 rfl rfl ?_
  refine c1144 hl h dX1_bare_1 hf (Nat.le_of_ble_eq_true rfl) (by decide) (by decide) (by decide) (by decide) (fun M1 hf => ?_) (fun q9 E9 M9 hf => r_out h hq hf)
  refine r_iconst (v := 0) h dX1_bare_4 (by decide) ?_
  refine r_istore_n (lv' := [(2, .int 0), (0, .ref a0), (1, .int a1)]) h dX1_bare_5 rfl (by decide) rfl ?_
  refine r_iconst (v := 0) h dX1_bare_6 (by decide) ?_
  refine r_istore_n (lv' := [(3, .int 0), (2, .int 0), (0, .ref a0), (1, .int a1)]) h dX1_bare_7 rfl (by decide) rfl ?_
  exact V.sub [2, 3, 1, 0] rfl hf
theorem c1571 {l : Launch} {G : gG} {X : gX} {cc : ByteArray} {nL F L bc bs pc : Nat} {M : gM} {lv : List (Nat × Value)} {rest : List Value} {a0 : Nat} {a1 : Int32} {K : Int32 → gM → Prop} {KX : Addr → String → gM → Prop} (hl : l.stackTraces = false) (h : hX l G X cc nL "GlacierMailLaw" F L) (d : decode cc pc = .ok (.invokevirtual 129, 3)) (hk : kd M a0 = some (.inl 1)) (hf : f_X1_bare a0 a1 M K KX) (hst : (rest.map fun v => v.category).sum ≤ 8) (hF : 30 ≤ F) (hL : 670 ≤ L) (h1 : 1 ≤ bc) (h2 : 6 ≤ bs) (kk : ∀ x M1, K x M1 → V l G X (bc - 1) (bs - 6) M1 (pc + 3) lv (.int x :: rest)) (kx : ∀ q E M1, KX q E M1 → VX l G X (bc - 1) (bs - 6) M1 pc lv q E) : V l G X bc bs M pc lv (.int a1 :: .ref a0 :: rest) := r_callV (n := 1) (As := [.int a1]) h (m_X1_bare hl hf) 1 rfl hk rfl ⟨by decide, by decide, by decide +kernel⟩ d q1571 q1572 q1573 q135 q1574 rfl rfl hst hF hL h1 h2 (kI_go kk) kx
