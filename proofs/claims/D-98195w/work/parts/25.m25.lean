def f_X10_fault (a0 : Nat) (M : gM) (K : Int32 → gM → Prop) : Prop :=
  kd M a0 = some (.inl 10) ∧ ∀ M2, M2 = sI M a0 0 0 → kd M2 a0 = some (.inl 10) ∧ K (iv M2 a0 13) M2
set_option maxHeartbeats 4000000 in
theorem m_X10_fault {l : Launch} (hl : l.stackTraces = false) {G : gG} {a0 : Nat} {M : gM} {K : Int32 → gM → Prop} (hf : f_X10_fault a0 M K) : gMet l G yX10_fault (ws_ yX10_fault cX10_fault 1 (some Jvm.ClassFile.FieldType.int)) ({ frames := 0, cells := 0, slots := 0, locals := 0 }) M [.ref a0] (kI K) kN := by
  refine gm_of hl (ret := (some Jvm.ClassFile.FieldType.int)) rfl (Nat.le_of_ble_eq_true rfl) (fun X h hq => ?_)
  have h : hX l G X cX10_fault 1 "GlacierMailModel" 0 0 := h
  have hf := hf
  show V l G X 0 0 M 0 [(0, .ref a0)] []
  unfold f_X10_fault at hf
  refine r_aload_n h 0 dX10_fault_0 rfl rfl ?_
  refine r_iconst (v := 0) h dX10_fault_1 (by decide) ?_
  obtain ⟨k1, hf⟩ := hf
  refine p1597 h dX10_fault_2 k1 ?_
  refine r_goW (fun M2 eM2 => ?_)
  have hf := hf M2 eM2
  refine r_aload_n h 0 dX10_fault_5 rfl rfl ?_
  obtain ⟨k3, hf⟩ := hf
  refine g1610 h dX10_fault_6 k3 ?_
  exact r_ireturn h hq dX10_fault_9 ⟨_, rfl, hf⟩
theorem c1735 {l : Launch} {G : gG} {X : gX} {cc : ByteArray} {nL F L bc bs pc : Nat} {M : gM} {lv : List (Nat × Value)} {rest : List Value} {a0 : Nat} {K : Int32 → gM → Prop} (hl : l.stackTraces = false) (h : hX l G X cc nL "GlacierMailLaw" F L) (d : decode cc pc = .ok (.invokevirtual 164, 3)) (hk : kd M a0 = some (.inl 10)) (hf : f_X10_fault a0 M K) (hst : (rest.map fun v => v.category).sum ≤ 8) (hF : 1 ≤ F) (hL : 20 ≤ L) (kk : ∀ x M1, K x M1 → V l G X bc bs M1 (pc + 3) lv (.int x :: rest)) : V l G X bc bs M pc lv (.ref a0 :: rest) := r_callV (n := 0) (As := []) h (m_X10_fault hl hf) 10 rfl hk rfl ⟨by decide, by decide, by decide +kernel⟩ d q1735 q1736 q1737 q147 q1738 rfl rfl hst hF hL (Nat.zero_le _) (Nat.zero_le _) (kI_go kk) kN_go
def f_X10_uses (a0 : Nat) (M : gM) (K : gM → Prop) : Prop :=
  kd M a0 = some (.inl 10) ∧ ∀ M2, M2 = sI M a0 0 0 → kd M2 a0 = some (.inl 10) ∧ ∀ M4, M4 = sI M2 a0 10 (iv M2 a0 8) → kd M4 a0 = some (.inl 10) ∧ ∀ M6, M6 = sI M4 a0 8 0 → kd M6 a0 = some (.inl 10) ∧ ∀ M8, M8 = sI M6 a0 9 0 → K M8
set_option maxHeartbeats 4000000 in
theorem m_X10_uses {l : Launch} (hl : l.stackTraces = false) {G : gG} {a0 : Nat} {M : gM} {K : gM → Prop} (hf : f_X10_uses a0 M K) : gMet l G yX10_uses (ws_ yX10_uses cX10_uses 1 none) ({ frames := 0, cells := 0, slots := 0, locals := 0 }) M [.ref a0] (kV K) kN := by
  refine gm_of hl (ret := none) rfl (Nat.le_of_ble_eq_true rfl) (fun X h hq => ?_)
  have h : hX l G X cX10_uses 1 "GlacierMailModel" 0 0 := h
  have hf := hf
  show V l G X 0 0 M 0 [(0, .ref a0)] []
  unfold f_X10_uses at hf
  refine r_aload_n h 0 dX10_uses_0 rfl rfl ?_
  refine r_iconst (v := 0) h dX10_uses_1 (by decide) ?_
  obtain ⟨k1, hf⟩ := hf
  refine p1597 h dX10_uses_2 k1 ?_
  refine r_goW (fun M2 eM2 => ?_)
  have hf := hf M2 eM2
  refine r_aload_n h 0 dX10_uses_5 rfl rfl ?_
  refine r_aload_n h 0 dX10_uses_6 rfl rfl ?_
  obtain ⟨k3, hf⟩ := hf
  refine g1605 h dX10_uses_7 k3 ?_
  refine p1607 h dX10_uses_10 k3 ?_
  refine r_goW (fun M4 eM4 => ?_)
  have hf := hf M4 eM4
  refine r_aload_n h 0 dX10_uses_13 rfl rfl ?_
  refine r_iconst (v := 0) h dX10_uses_14 (by decide) ?_
  obtain ⟨k5, hf⟩ := hf
  refine p1605 h dX10_uses_15 k5 ?_
  refine r_goW (fun M6 eM6 => ?_)
  have hf := hf M6 eM6
  refine r_aload_n h 0 dX10_uses_18 rfl rfl ?_
  refine r_iconst (v := 0) h dX10_uses_19 (by decide) ?_
  obtain ⟨k7, hf⟩ := hf
  refine p1606 h dX10_uses_20 k7 ?_
  refine r_goW (fun M8 eM8 => ?_)
  have hf := hf M8 eM8
  exact r_return h hq dX10_uses_23 ⟨rfl, hf⟩
theorem c1747 {l : Launch} {G : gG} {X : gX} {cc : ByteArray} {nL F L bc bs pc : Nat} {M : gM} {lv : List (Nat × Value)} {rest : List Value} {a0 : Nat} {K : gM → Prop} (hl : l.stackTraces = false) (h : hX l G X cc nL "GlacierMailModel" F L) (d : decode cc pc = .ok (.invokevirtual 289, 3)) (hk : kd M a0 = some (.inl 10)) (hf : f_X10_uses a0 M K) (hst : (rest.map fun v => v.category).sum ≤ 8) (hF : 1 ≤ F) (hL : 20 ≤ L) (kk : ∀ M1, K M1 → V l G X bc bs M1 (pc + 3) lv rest) : V l G X bc bs M pc lv (.ref a0 :: rest) := r_callV (n := 0) (As := []) h (m_X10_uses hl hf) 10 rfl hk rfl ⟨by decide, by decide, by decide +kernel⟩ d q1747 q1749 qs53 q147 q1750 rfl rfl hst hF hL (Nat.zero_le _) (Nat.zero_le _) (kV_go kk) kN_go
def f_X10_isAt (a0 : Nat) (a1 : Int32) (a2 : Int32) (M : gM) (K : Int32 → gM → Prop) : Prop :=
  kd M a0 = some (.inl 10) ∧ if (iv M a0 10) ≤ (iv M a0 9) then K 0 M else ∃ b3, rv M a0 7 = some b3 ∧ inA M b3 1 (iv M a0 9) ∧ if (iv M b3 (ix (iv M a0 9))) < a1 then K 0 M else ∃ b7, rv M a0 7 = some b7 ∧ inA M b7 1 (iv M a0 9) ∧ if a2 < (iv M b7 (ix (iv M a0 9))) then K 0 M else K 1 M
set_option maxHeartbeats 4000000 in
theorem m_X10_isAt {l : Launch} (hl : l.stackTraces = false) {G : gG} {a0 : Nat} {a1 : Int32} {a2 : Int32} {M : gM} {K : Int32 → gM → Prop} (hf : f_X10_isAt a0 a1 a2 M K) : gMet l G yX10_isAt (ws_ yX10_isAt cX10_isAt 3 (some Jvm.ClassFile.FieldType.boolean)) ({ frames := 0, cells := 0, slots := 0, locals := 0 }) M [.ref a0, .int a1, .int a2] (kI K) kN := by
  refine gm_of hl (ret := (some Jvm.ClassFile.FieldType.boolean)) rfl (Nat.le_of_ble_eq_true rfl) (fun X h hq => ?_)
  have h : hX l G X cX10_isAt 3 "GlacierMailModel" 0 0 := h
  have hf := hf
  show V l G X 0 0 M 0 [(0, .ref a0), (1, .int a1), (2, .int a2)] []
  unfold f_X10_isAt at hf
  refine r_aload_n h 0 dX10_isAt_0 rfl rfl ?_
  obtain ⟨k1, hf⟩ := hf
  refine g1606 h dX10_isAt_1 k1 ?_
  refine r_aload_n h 0 dX10_isAt_4 rfl rfl ?_
  refine g1607 h dX10_isAt_5 k1 ?_
  refine r_icmp_ge (tgt := 41) h dX10_isAt_8 (by decide) (fun c2 => ?_) (fun c2 => ?_)
  · have hf := ite_t c2 hf
    refine r_iconst (v := 0) h dX10_isAt_41 (by decide) ?_
    exact r_zreturn h hq dX10_isAt_42 (by decide) ⟨_, rfl, hf⟩
  · have hf := ite_f c2 hf
    refine r_aload_n h 0 dX10_isAt_11 rfl rfl ?_
    obtain ⟨b3, e4, hf⟩ := hf
    refine g1604 h dX10_isAt_12 k1 e4 ?_
    refine r_aload_n h 0 dX10_isAt_15 rfl rfl ?_
    refine g1606 h dX10_isAt_16 k1 ?_
    obtain ⟨j5, hf⟩ := hf
    refine r_baload h dX10_isAt_19 j5 ?_
    refine r_iload_n h 1 dX10_isAt_20 rfl rfl ?_
    refine r_icmp_lt (tgt := 41) h dX10_isAt_21 (by decide) (fun c6 => ?_) (fun c6 => ?_)
    · have hf := ite_t c6 hf
      refine r_iconst (v := 0) h dX10_isAt_41 (by decide) ?_
      exact r_zreturn h hq dX10_isAt_42 (by decide) ⟨_, rfl, hf⟩
    · have hf := ite_f c6 hf
      refine r_aload_n h 0 dX10_isAt_24 rfl rfl ?_
      obtain ⟨b7, e8, hf⟩ := hf
      refine g1604 h dX10_isAt_25 k1 e8 ?_
      refine r_aload_n h 0 dX10_isAt_28 rfl rfl ?_
      refine g1606 h dX10_isAt_29 k1 ?_
      obtain ⟨j9, hf⟩ := hf
      refine r_baload h dX10_isAt_32 j9 ?_
      refine r_iload_n h 2 dX10_isAt_33 rfl rfl ?_
      refine r_icmp_gt (tgt := 41) h dX10_isAt_34 (by decide) (fun c10 => ?_) (fun c10 => ?_)
      · have hf := ite_t c10 hf
        refine r_iconst (v := 0) h dX10_isAt_41 (by decide) ?_
        exact r_zreturn h hq dX10_isAt_42 (by decide) ⟨_, rfl, hf⟩
      · have hf := ite_f c10 hf
        refine r_iconst (v := 1) h dX10_isAt_37 (by decide) ?_
        refine r_goto (tgt := 42) h dX10_isAt_38 (by decide) ?_
        exact r_zreturn h hq dX10_isAt_42 (by decide) ⟨_, rfl, hf⟩
theorem c1755 {l : Launch} {G : gG} {X : gX} {cc : ByteArray} {nL F L bc bs pc : Nat} {M : gM} {lv : List (Nat × Value)} {rest : List Value} {a0 : Nat} {a1 : Int32} {a2 : Int32} {K : Int32 → gM → Prop} (hl : l.stackTraces = false) (h : hX l G X cc nL "GlacierMailModel" F L) (d : decode cc pc = .ok (.invokevirtual 112, 3)) (hk : kd M a0 = some (.inl 10)) (hf : f_X10_isAt a0 a1 a2 M K) (hst : (rest.map fun v => v.category).sum ≤ 8) (hF : 1 ≤ F) (hL : 22 ≤ L) (kk : ∀ x M1, K x M1 → V l G X bc bs M1 (pc + 3) lv (.int x :: rest)) : V l G X bc bs M pc lv (.int a2 :: .int a1 :: .ref a0 :: rest) := r_callV (n := 2) (As := [.int a1, .int a2]) h (m_X10_isAt hl hf) 10 rfl hk rfl ⟨by decide, by decide, by decide +kernel⟩ d q1755 q1757 qs55 q147 q1758 rfl rfl hst hF hL (Nat.zero_le _) (Nat.zero_le _) (kI_go kk) kN_go
def f_X10_blanks (a0 : Nat) (M : gM) (K : gM → Prop) : Prop :=
  ∀ P0 : Nat → gM → Prop,
  (∀ (v0 : Nat) (M : gM), (kd M v0 = some (.inl 10) ∧ f_X10_isAt v0 32 32 M (fun x3 M2 => if x3 = 0 then kd M2 v0 = some (.inl 10) ∧ ∀ M6, M6 = sI M2 v0 11 (iv M2 v0 9) → K M6 else kd M2 v0 = some (.inl 10) ∧ ∀ M8, M8 = sI M2 v0 9 ((iv M2 v0 9) + 1) → P0 v0 M8)) → P0 v0 M) →
  P0 a0 M
set_option maxHeartbeats 4000000 in
theorem m_X10_blanks {l : Launch} (hl : l.stackTraces = false) {G : gG} {a0 : Nat} {M : gM} {K : gM → Prop} (hf : f_X10_blanks a0 M K) : gMet l G yX10_blanks (ws_ yX10_blanks cX10_blanks 1 none) ({ frames := 1, cells := 0, slots := 0, locals := 22 }) M [.ref a0] (kV K) kN := by
  refine gm_of hl (ret := none) rfl (Nat.le_of_ble_eq_true rfl) (fun X h hq => ?_)
  have h : hX l G X cX10_blanks 1 "GlacierMailModel" 1 22 := h
  have hf := hf
  show V l G X 0 0 M 0 [(0, .ref a0)] []
  have hf := hf
    (fun v0 M => V l G X 0 0 M 0 [(0, .ref v0)] [])
    (by
      intro v0 M hf
      show V l G X 0 0 M 0 [(0, .ref v0)] []
      refine r_aload_n h 0 dX10_blanks_0 rfl rfl ?_
      refine r_bipush (v := 32) h dX10_blanks_1 (by decide) ?_
      refine r_bipush (v := 32) h dX10_blanks_3 (by decide) ?_
      obtain ⟨k1, hf⟩ := hf
      refine c1755 hl h dX10_blanks_5 k1 hf (Nat.le_of_ble_eq_true rfl) (by decide) (by decide) (fun x3 M2 hf => ?_)
      refine r_if_eq (tgt := 24) h dX10_blanks_8 (by decide) (fun c4 => ?_) (fun c4 => ?_)
      · have hf := ite_t c4 hf
        refine r_aload_n h 0 dX10_blanks_24 rfl rfl ?_
        refine r_aload_n h 0 dX10_blanks_25 rfl rfl ?_
        obtain ⟨k5, hf⟩ := hf
        refine g1606 h dX10_blanks_26 k5 ?_
        refine p1608 h dX10_blanks_29 k5 ?_
        refine r_goW (fun M6 eM6 => ?_)
        have hf := hf M6 eM6
        exact r_return h hq dX10_blanks_32 ⟨rfl, hf⟩
      · have hf := ite_f c4 hf
        refine r_aload_n h 0 dX10_blanks_11 rfl rfl ?_
        refine r_dup h dX10_blanks_12 rfl ?_
        obtain ⟨k7, hf⟩ := hf
        refine g1606 h dX10_blanks_13 k7 ?_
        refine r_iconst (v := 1) h dX10_blanks_16 (by decide) ?_
        refine r_iadd h dX10_blanks_17 ?_
        refine p1606 h dX10_blanks_18 k7 ?_
        refine r_goW (fun M8 eM8 => ?_)
        have hf := hf M8 eM8
        refine r_goto (tgt := 0) h dX10_blanks_21 (by decide) ?_
        exact V.sub [0] rfl hf)
  exact V.sub [0] rfl hf
theorem c1751 {l : Launch} {G : gG} {X : gX} {cc : ByteArray} {nL F L bc bs pc : Nat} {M : gM} {lv : List (Nat × Value)} {rest : List Value} {a0 : Nat} {K : gM → Prop} (hl : l.stackTraces = false) (h : hX l G X cc nL "GlacierMailModel" F L) (d : decode cc pc = .ok (.invokevirtual 119, 3)) (hk : kd M a0 = some (.inl 10)) (hf : f_X10_blanks a0 M K) (hst : (rest.map fun v => v.category).sum ≤ 8) (hF : 2 ≤ F) (hL : 42 ≤ L) (kk : ∀ M1, K M1 → V l G X bc bs M1 (pc + 3) lv rest) : V l G X bc bs M pc lv (.ref a0 :: rest) := r_callV (n := 0) (As := []) h (m_X10_blanks hl hf) 10 rfl hk rfl ⟨by decide, by decide, by decide +kernel⟩ d q1751 q1753 qs54 q147 q1754 rfl rfl hst hF hL (Nat.zero_le _) (Nat.zero_le _) (kV_go kk) kN_go
def f_X10_letterRow (a0 : Nat) (M : gM) (K : gM → Prop) : Prop :=
  ∀ P4 : Nat → gM → Prop,
  (∀ (v0 : Nat) (M : gM), (kd M v0 = some (.inl 10) ∧ f_X10_isAt v0 97 122 M (fun x5 M4 => if x5 = 0 then K M4 else kd M4 v0 = some (.inl 10) ∧ ∀ M8, M8 = sI M4 v0 9 ((iv M4 v0 9) + 1) → P4 v0 M8)) → P4 v0 M) →
  kd M a0 = some (.inl 10) ∧ f_X10_blanks a0 M (fun M2 => P4 a0 M2)
set_option maxHeartbeats 4000000 in
theorem m_X10_letterRow {l : Launch} (hl : l.stackTraces = false) {G : gG} {a0 : Nat} {M : gM} {K : gM → Prop} (hf : f_X10_letterRow a0 M K) : gMet l G yX10_letterRow (ws_ yX10_letterRow cX10_letterRow 1 none) ({ frames := 2, cells := 0, slots := 0, locals := 42 }) M [.ref a0] (kV K) kN := by
  refine gm_of hl (ret := none) rfl (Nat.le_of_ble_eq_true rfl) (fun X h hq => ?_)
  have h : hX l G X cX10_letterRow 1 "GlacierMailModel" 2 42 := h
  have hf := hf
  show V l G X 0 0 M 0 [(0, .ref a0)] []
  have hf := hf
    (fun v0 M => V l G X 0 0 M 4 [(0, .ref v0)] [])
    (by
      intro v0 M hf
      show V l G X 0 0 M 4 [(0, .ref v0)] []
      refine r_aload_n h 0 dX10_letterRow_4 rfl rfl ?_
      refine r_bipush (v := 97) h dX10_letterRow_5 (by decide) ?_
      refine r_bipush (v := 122) h dX10_letterRow_7 (by decide) ?_
      obtain ⟨k3, hf⟩ := hf
      refine c1755 hl h dX10_letterRow_9 k3 hf (Nat.le_of_ble_eq_true rfl) (by decide) (by decide) (fun x5 M4 hf => ?_)
      refine r_if_eq (tgt := 28) h dX10_letterRow_12 (by decide) (fun c6 => ?_) (fun c6 => ?_)
      · have hf := ite_t c6 hf
        exact r_return h hq dX10_letterRow_28 ⟨rfl, hf⟩
      · have hf := ite_f c6 hf
        refine r_aload_n h 0 dX10_letterRow_15 rfl rfl ?_
        refine r_dup h dX10_letterRow_16 rfl ?_
        obtain ⟨k7, hf⟩ := hf
        refine g1606 h dX10_letterRow_17 k7 ?_
        refine r_iconst (v := 1) h dX10_letterRow_20 (by decide) ?_
        refine r_iadd h dX10_letterRow_21 ?_
        refine p1606 h dX10_letterRow_22 k7 ?_
        refine r_goW (fun M8 eM8 => ?_)
        have hf := hf M8 eM8
        refine r_goto (tgt := 4) h dX10_letterRow_25 (by decide) ?_
        exact V.sub [0] rfl hf)
  refine r_aload_n h 0 dX10_letterRow_0 rfl rfl ?_
  obtain ⟨k1, hf⟩ := hf
  refine c1751 hl h dX10_letterRow_1 k1 hf (Nat.le_of_ble_eq_true rfl) (by decide) (by decide) (fun M2 hf => ?_)
  exact V.sub [0] rfl hf
theorem c1763 {l : Launch} {G : gG} {X : gX} {cc : ByteArray} {nL F L bc bs pc : Nat} {M : gM} {lv : List (Nat × Value)} {rest : List Value} {a0 : Nat} {K : gM → Prop} (hl : l.stackTraces = false) (h : hX l G X cc nL "GlacierMailModel" F L) (d : decode cc pc = .ok (.invokevirtual 131, 3)) (hk : kd M a0 = some (.inl 10)) (hf : f_X10_letterRow a0 M K) (hst : (rest.map fun v => v.category).sum ≤ 8) (hF : 3 ≤ F) (hL : 62 ≤ L) (kk : ∀ M1, K M1 → V l G X bc bs M1 (pc + 3) lv rest) : V l G X bc bs M pc lv (.ref a0 :: rest) := r_callV (n := 0) (As := []) h (m_X10_letterRow hl hf) 10 rfl hk rfl ⟨by decide, by decide, by decide +kernel⟩ d q1763 q1765 qs57 q147 q1766 rfl rfl hst hF hL (Nat.zero_le _) (Nat.zero_le _) (kV_go kk) kN_go
def f_X10_isWord (a0 : Nat) (a1 : Nat) (M : gM) (K : Int32 → gM → Prop) : Prop :=
  ∀ P24 : Nat → Nat → Int32 → Int32 → gM → Prop,
  (∀ (v0 : Nat) (v1 : Nat) (v2 : Int32) (v3 : Int32) (M : gM), (if v2 = 0 then (v2 = 0 ∨ v2 = 1) ∧ K v2 M else f_len v1 M (fun x7 M6 => if x7 ≤ v3 then (v2 = 0 ∨ v2 = 1) ∧ K v2 M6 else kd M6 v0 = some (.inl 10) ∧ ∃ b10, rv M6 v0 7 = some b10 ∧ inA M6 b10 1 ((iv M6 v0 11) + v3) ∧ f_charAt v1 v3 M6 (fun x14 M13 => if (iv M6 b10 (ix ((iv M6 v0 11) + v3))) = x14 then P24 v0 v1 1 (v3 + 1) M13 else P24 v0 v1 0 (v3 + 1) M13))) → P24 v0 v1 v2 v3 M) →
  kd M a0 = some (.inl 10) ∧ f_len a1 M (fun x3 M2 => if ((iv M a0 9) - (iv M a0 11)) = x3 then P24 a0 a1 1 0 M2 else P24 a0 a1 0 0 M2)
set_option maxHeartbeats 4000000 in
theorem m_X10_isWord {l : Launch} (hl : l.stackTraces = false) {G : gG} {a0 : Nat} {a1 : Nat} {M : gM} {K : Int32 → gM → Prop} (hf : f_X10_isWord a0 a1 M K) : gMet l G yX10_isWord (ws_ yX10_isWord cX10_isWord 4 (some Jvm.ClassFile.FieldType.boolean)) ({ frames := 4, cells := 0, slots := 0, locals := 85 }) M [.ref a0, .ref a1] (kI K) kN := by
  refine gm_of hl (ret := (some Jvm.ClassFile.FieldType.boolean)) rfl (Nat.le_of_ble_eq_true rfl) (fun X h hq => ?_)
  have h : hX l G X cX10_isWord 4 "GlacierMailModel" 4 85 := h
  have hf := hf
  show V l G X 0 0 M 0 [(0, .ref a0), (1, .ref a1)] []
  have hf := hf
    (fun v0 v1 v2 v3 M => V l G X 0 0 M 24 [(0, .ref v0), (1, .ref v1), (2, .int v2), (3, .int v3)] [])
    (by
      intro v0 v1 v2 v3 M hf
      show V l G X 0 0 M 24 [(0, .ref v0), (1, .ref v1), (2, .int v2), (3, .int v3)] []
      refine r_iload_n h 2 dX10_isWord_24 rfl rfl ?_
      refine r_if_eq (tgt := 67) h dX10_isWord_25 (by decide) (fun c5 => ?_) (fun c5 => ?_)
      · have hf := ite_t c5 hf
        refine r_iload_n h 2 dX10_isWord_67 rfl rfl ?_
        exact r_zreturn h hq dX10_isWord_68 hf.1 ⟨_, rfl, hf.2⟩
      · have hf := ite_f c5 hf
        refine r_iload_n h 3 dX10_isWord_28 rfl rfl ?_
        refine r_aload_n h 1 dX10_isWord_29 rfl rfl ?_
        refine c1776 hl h dX10_isWord_30 hf (Nat.le_of_ble_eq_true rfl) (by decide) (by decide) (fun x7 M6 hf => ?_)
        refine r_icmp_ge (tgt := 67) h dX10_isWord_33 (by decide) (fun c8 => ?_) (fun c8 => ?_)
        · have hf := ite_t c8 hf
          refine r_iload_n h 2 dX10_isWord_67 rfl rfl ?_
          exact r_zreturn h hq dX10_isWord_68 hf.1 ⟨_, rfl, hf.2⟩
        · have hf := ite_f c8 hf
          refine r_aload_n h 0 dX10_isWord_36 rfl rfl ?_
          obtain ⟨k9, hf⟩ := hf
          obtain ⟨b10, e11, hf⟩ := hf
          refine g1604 h dX10_isWord_37 k9 e11 ?_
          refine r_aload_n h 0 dX10_isWord_40 rfl rfl ?_
          refine g1608 h dX10_isWord_41 k9 ?_
          refine r_iload_n h 3 dX10_isWord_44 rfl rfl ?_
          refine r_iadd h dX10_isWord_45 ?_
          obtain ⟨j12, hf⟩ := hf
          refine r_baload h dX10_isWord_46 j12 ?_
          refine r_aload_n h 1 dX10_isWord_47 rfl rfl ?_
          refine r_iload_n h 3 dX10_isWord_48 rfl rfl ?_
          refine c1777 hl h dX10_isWord_49 hf (Nat.le_of_ble_eq_true rfl) (by decide) (by decide) (fun x14 M13 hf => ?_)
          refine r_icmp_ne (tgt := 59) h dX10_isWord_52 (by decide) (fun c15 => ?_) (fun c15 => ?_)
          · have hf := ite_f c15 hf
            refine r_iconst (v := 0) h dX10_isWord_59 (by decide) ?_
            refine r_istore_n (lv' := [(2, .int 0), (0, .ref v0), (1, .ref v1), (3, .int v3)]) h dX10_isWord_60 rfl (by decide) rfl ?_
            refine r_iinc (v := v3 + 1) (lv' := [(3, .int (v3 + 1)), (2, .int 0), (0, .ref v0), (1, .ref v1)]) h 3 dX10_isWord_61 rfl rfl (by decide) rfl ?_
            refine r_goto (tgt := 24) h dX10_isWord_64 (by decide) ?_
            exact V.sub [2, 3, 1, 0] rfl hf
          · have hf := ite_t c15 hf
            refine r_iconst (v := 1) h dX10_isWord_55 (by decide) ?_
            refine r_goto (tgt := 60) h dX10_isWord_56 (by decide) ?_
            refine r_istore_n (lv' := [(2, .int 1), (0, .ref v0), (1, .ref v1), (3, .int v3)]) h dX10_isWord_60 rfl (by decide) rfl ?_
            refine r_iinc (v := v3 + 1) (lv' := [(3, .int (v3 + 1)), (2, .int 1), (0, .ref v0), (1, .ref v1)]) h 3 dX10_isWord_61 rfl rfl (by decide) rfl ?_
            refine r_goto (tgt := 24) h dX10_isWord_64 (by decide) ?_
            exact V.sub [2, 3, 1, 0] rfl hf)
  refine r_aload_n h 0 dX10_isWord_0 rfl rfl ?_
  obtain ⟨k1, hf⟩ := hf
  refine g1606 h dX10_isWord_1 k1 ?_
  refine r_aload_n h 0 dX10_isWord_4 rfl rfl ?_
  refine g1608 h dX10_isWord_5 k1 ?_
  refine r_isub h dX10_isWord_8 ?_
  refine r_aload_n h 1 dX10_isWord_9 rfl rfl ?_
  refine c1776 hl h dX10_isWord_10 hf (Nat.le_of_ble_eq_true rfl) (by decide) (by decide) (fun x3 M2 hf => ?_)
  refine r_icmp_ne (tgt := 20) h dX10_isWord_13 (by decide) (fun c4 => ?_) (fun c4 => ?_)
  · have hf := ite_f c4 hf
    refine r_iconst (v := 0) h dX10_isWord_20 (by decide) ?_
    refine r_istore_n (lv' := [(2, .int 0), (0, .ref a0), (1, .ref a1)]) h dX10_isWord_21 rfl (by decide) rfl ?_
    refine r_iconst (v := 0) h dX10_isWord_22 (by decide) ?_
    refine r_istore_n (lv' := [(3, .int 0), (2, .int 0), (0, .ref a0), (1, .ref a1)]) h dX10_isWord_23 rfl (by decide) rfl ?_
    exact V.sub [2, 3, 1, 0] rfl hf
  · have hf := ite_t c4 hf
    refine r_iconst (v := 1) h dX10_isWord_16 (by decide) ?_
    refine r_goto (tgt := 21) h dX10_isWord_17 (by decide) ?_
    refine r_istore_n (lv' := [(2, .int 1), (0, .ref a0), (1, .ref a1)]) h dX10_isWord_21 rfl (by decide) rfl ?_
    refine r_iconst (v := 0) h dX10_isWord_22 (by decide) ?_
    refine r_istore_n (lv' := [(3, .int 0), (2, .int 1), (0, .ref a0), (1, .ref a1)]) h dX10_isWord_23 rfl (by decide) rfl ?_
    exact V.sub [2, 3, 1, 0] rfl hf
theorem c1772 {l : Launch} {G : gG} {X : gX} {cc : ByteArray} {nL F L bc bs pc : Nat} {M : gM} {lv : List (Nat × Value)} {rest : List Value} {a0 : Nat} {a1 : Nat} {K : Int32 → gM → Prop} (hl : l.stackTraces = false) (h : hX l G X cc nL "GlacierMailModel" F L) (d : decode cc pc = .ok (.invokevirtual 134, 3)) (hk : kd M a0 = some (.inl 10)) (hf : f_X10_isWord a0 a1 M K) (hst : (rest.map fun v => v.category).sum ≤ 8) (hF : 5 ≤ F) (hL : 108 ≤ L) (kk : ∀ x M1, K x M1 → V l G X bc bs M1 (pc + 3) lv (.int x :: rest)) : V l G X bc bs M pc lv (.ref a1 :: .ref a0 :: rest) := r_callV (n := 1) (As := [.ref a1]) h (m_X10_isWord hl hf) 10 rfl hk rfl ⟨by decide, by decide, by decide +kernel⟩ d q1772 q1774 qs59 q147 q1775 rfl rfl hst hF hL (Nat.zero_le _) (Nat.zero_le _) (kI_go kk) kN_go
def f_X10_people (a0 : Nat) (M : gM) (K : Int32 → gM → Prop) : Prop :=
  kd M a0 = some (.inl 10) ∧ ∃ b2, rv M a0 1 = some b2 ∧ inA M b2 0 3 ∧ K (iv M b2 (ix 3)) M
set_option maxHeartbeats 4000000 in
theorem m_X10_people {l : Launch} (hl : l.stackTraces = false) {G : gG} {a0 : Nat} {M : gM} {K : Int32 → gM → Prop} (hf : f_X10_people a0 M K) : gMet l G yX10_people (ws_ yX10_people cX10_people 1 (some Jvm.ClassFile.FieldType.int)) ({ frames := 0, cells := 0, slots := 0, locals := 0 }) M [.ref a0] (kI K) kN := by
  refine gm_of hl (ret := (some Jvm.ClassFile.FieldType.int)) rfl (Nat.le_of_ble_eq_true rfl) (fun X h hq => ?_)
  have h : hX l G X cX10_people 1 "GlacierMailModel" 0 0 := h
  have hf := hf
  show V l G X 0 0 M 0 [(0, .ref a0)] []
  unfold f_X10_people at hf
  refine r_aload_n h 0 dX10_people_0 rfl rfl ?_
  obtain ⟨k1, hf⟩ := hf
  obtain ⟨b2, e3, hf⟩ := hf
  refine g1598 h dX10_people_1 k1 e3 ?_
  refine r_iconst (v := 3) h dX10_people_4 (by decide) ?_
  obtain ⟨j4, hf⟩ := hf
  refine r_iaload h dX10_people_5 j4 ?_
  exact r_ireturn h hq dX10_people_6 ⟨_, rfl, hf⟩
theorem c1786 {l : Launch} {G : gG} {X : gX} {cc : ByteArray} {nL F L bc bs pc : Nat} {M : gM} {lv : List (Nat × Value)} {rest : List Value} {a0 : Nat} {K : Int32 → gM → Prop} (hl : l.stackTraces = false) (h : hX l G X cc nL "GlacierMailModel" F L) (d : decode cc pc = .ok (.invokevirtual 97, 3)) (hk : kd M a0 = some (.inl 10)) (hf : f_X10_people a0 M K) (hst : (rest.map fun v => v.category).sum ≤ 8) (hF : 1 ≤ F) (hL : 20 ≤ L) (kk : ∀ x M1, K x M1 → V l G X bc bs M1 (pc + 3) lv (.int x :: rest)) : V l G X bc bs M pc lv (.ref a0 :: rest) := r_callV (n := 0) (As := []) h (m_X10_people hl hf) 10 rfl hk rfl ⟨by decide, by decide, by decide +kernel⟩ d q1786 q1788 qs62 q147 q1789 rfl rfl hst hF hL (Nat.zero_le _) (Nat.zero_le _) (kI_go kk) kN_go
def f_X10_letters (a0 : Nat) (M : gM) (K : Int32 → gM → Prop) : Prop :=
  kd M a0 = some (.inl 10) ∧ ∃ b2, rv M a0 1 = some b2 ∧ inA M b2 0 4 ∧ K (iv M b2 (ix 4)) M
set_option maxHeartbeats 4000000 in
theorem m_X10_letters {l : Launch} (hl : l.stackTraces = false) {G : gG} {a0 : Nat} {M : gM} {K : Int32 → gM → Prop} (hf : f_X10_letters a0 M K) : gMet l G yX10_letters (ws_ yX10_letters cX10_letters 1 (some Jvm.ClassFile.FieldType.int)) ({ frames := 0, cells := 0, slots := 0, locals := 0 }) M [.ref a0] (kI K) kN := by
  refine gm_of hl (ret := (some Jvm.ClassFile.FieldType.int)) rfl (Nat.le_of_ble_eq_true rfl) (fun X h hq => ?_)
  have h : hX l G X cX10_letters 1 "GlacierMailModel" 0 0 := h
  have hf := hf
  show V l G X 0 0 M 0 [(0, .ref a0)] []
  unfold f_X10_letters at hf
  refine r_aload_n h 0 dX10_letters_0 rfl rfl ?_
  obtain ⟨k1, hf⟩ := hf
  obtain ⟨b2, e3, hf⟩ := hf
  refine g1598 h dX10_letters_1 k1 e3 ?_
  refine r_iconst (v := 4) h dX10_letters_4 (by decide) ?_
  obtain ⟨j4, hf⟩ := hf
  refine r_iaload h dX10_letters_5 j4 ?_
  exact r_ireturn h hq dX10_letters_6 ⟨_, rfl, hf⟩
theorem c1790 {l : Launch} {G : gG} {X : gX} {cc : ByteArray} {nL F L bc bs pc : Nat} {M : gM} {lv : List (Nat × Value)} {rest : List Value} {a0 : Nat} {K : Int32 → gM → Prop} (hl : l.stackTraces = false) (h : hX l G X cc nL "GlacierMailModel" F L) (d : decode cc pc = .ok (.invokevirtual 100, 3)) (hk : kd M a0 = some (.inl 10)) (hf : f_X10_letters a0 M K) (hst : (rest.map fun v => v.category).sum ≤ 8) (hF : 1 ≤ F) (hL : 20 ≤ L) (kk : ∀ x M1, K x M1 → V l G X bc bs M1 (pc + 3) lv (.int x :: rest)) : V l G X bc bs M pc lv (.ref a0 :: rest) := r_callV (n := 0) (As := []) h (m_X10_letters hl hf) 10 rfl hk rfl ⟨by decide, by decide, by decide +kernel⟩ d q1790 q1792 qs63 q147 q1793 rfl rfl hst hF hL (Nat.zero_le _) (Nat.zero_le _) (kI_go kk) kN_go
def f_X10_isEmpty (a0 : Nat) (M : gM) (K : Int32 → gM → Prop) : Prop :=
  kd M a0 = some (.inl 10) ∧ ∃ b2, rv M a0 1 = some b2 ∧ inA M b2 0 2 ∧ f_X10_people a0 M (fun x6 M5 => kd M5 a0 = some (.inl 10) ∧ f_X10_letters a0 M5 (fun x9 M8 => kd M8 a0 = some (.inl 10) ∧ ∃ b11, rv M8 a0 1 = some b11 ∧ inA M8 b11 0 5 ∧ ∃ b14, rv M8 a0 1 = some b14 ∧ inA M8 b14 0 6 ∧ if (((((iv M b2 (ix 2)) + x6) + x9) + (iv M8 b11 (ix 5))) + (iv M8 b14 (ix 6))) = 0 then K 1 M8 else K 0 M8))
set_option maxHeartbeats 4000000 in
theorem m_X10_isEmpty {l : Launch} (hl : l.stackTraces = false) {G : gG} {a0 : Nat} {M : gM} {K : Int32 → gM → Prop} (hf : f_X10_isEmpty a0 M K) : gMet l G yX10_isEmpty (ws_ yX10_isEmpty cX10_isEmpty 1 (some Jvm.ClassFile.FieldType.boolean)) ({ frames := 1, cells := 0, slots := 0, locals := 20 }) M [.ref a0] (kI K) kN := by
  refine gm_of hl (ret := (some Jvm.ClassFile.FieldType.boolean)) rfl (Nat.le_of_ble_eq_true rfl) (fun X h hq => ?_)
  have h : hX l G X cX10_isEmpty 1 "GlacierMailModel" 1 20 := h
  have hf := hf
  show V l G X 0 0 M 0 [(0, .ref a0)] []
  unfold f_X10_isEmpty at hf
  refine r_aload_n h 0 dX10_isEmpty_0 rfl rfl ?_
  obtain ⟨k1, hf⟩ := hf
  obtain ⟨b2, e3, hf⟩ := hf
  refine g1598 h dX10_isEmpty_1 k1 e3 ?_
  refine r_iconst (v := 2) h dX10_isEmpty_4 (by decide) ?_
  obtain ⟨j4, hf⟩ := hf
  refine r_iaload h dX10_isEmpty_5 j4 ?_
  refine r_aload_n h 0 dX10_isEmpty_6 rfl rfl ?_
  refine c1786 hl h dX10_isEmpty_7 k1 hf (Nat.le_of_ble_eq_true rfl) (by decide) (by decide) (fun x6 M5 hf => ?_)
  refine r_iadd h dX10_isEmpty_10 ?_
  refine r_aload_n h 0 dX10_isEmpty_11 rfl rfl ?_
  obtain ⟨k7, hf⟩ := hf
  refine c1790 hl h dX10_isEmpty_12 k7 hf (Nat.le_of_ble_eq_true rfl) (by decide) (by decide) (fun x9 M8 hf => ?_)
  refine r_iadd h dX10_isEmpty_15 ?_
  refine r_aload_n h 0 dX10_isEmpty_16 rfl rfl ?_
  obtain ⟨k10, hf⟩ := hf
  obtain ⟨b11, e12, hf⟩ := hf
  refine g1598 h dX10_isEmpty_17 k10 e12 ?_
  refine r_iconst (v := 5) h dX10_isEmpty_20 (by decide) ?_
  obtain ⟨j13, hf⟩ := hf
  refine r_iaload h dX10_isEmpty_21 j13 ?_
  refine r_iadd h dX10_isEmpty_22 ?_
  refine r_aload_n h 0 dX10_isEmpty_23 rfl rfl ?_
  obtain ⟨b14, e15, hf⟩ := hf
  refine g1598 h dX10_isEmpty_24 k10 e15 ?_
  refine r_bipush (v := 6) h dX10_isEmpty_27 (by decide) ?_
  obtain ⟨j16, hf⟩ := hf
  refine r_iaload h dX10_isEmpty_29 j16 ?_
  refine r_iadd h dX10_isEmpty_30 ?_
  refine r_if_ne (tgt := 38) h dX10_isEmpty_31 (by decide) (fun c17 => ?_) (fun c17 => ?_)
  · have hf := ite_f c17 hf
    refine r_iconst (v := 0) h dX10_isEmpty_38 (by decide) ?_
    exact r_zreturn h hq dX10_isEmpty_39 (by decide) ⟨_, rfl, hf⟩
  · have hf := ite_t c17 hf
    refine r_iconst (v := 1) h dX10_isEmpty_34 (by decide) ?_
    refine r_goto (tgt := 39) h dX10_isEmpty_35 (by decide) ?_
    exact r_zreturn h hq dX10_isEmpty_39 (by decide) ⟨_, rfl, hf⟩
theorem c1782 {l : Launch} {G : gG} {X : gX} {cc : ByteArray} {nL F L bc bs pc : Nat} {M : gM} {lv : List (Nat × Value)} {rest : List Value} {a0 : Nat} {K : Int32 → gM → Prop} (hl : l.stackTraces = false) (h : hX l G X cc nL "GlacierMailModel" F L) (d : decode cc pc = .ok (.invokevirtual 145, 3)) (hk : kd M a0 = some (.inl 10)) (hf : f_X10_isEmpty a0 M K) (hst : (rest.map fun v => v.category).sum ≤ 8) (hF : 2 ≤ F) (hL : 40 ≤ L) (kk : ∀ x M1, K x M1 → V l G X bc bs M1 (pc + 3) lv (.int x :: rest)) : V l G X bc bs M pc lv (.ref a0 :: rest) := r_callV (n := 0) (As := []) h (m_X10_isEmpty hl hf) 10 rfl hk rfl ⟨by decide, by decide, by decide +kernel⟩ d q1782 q1784 qs61 q147 q1785 rfl rfl hst hF hL (Nat.zero_le _) (Nat.zero_le _) (kI_go kk) kN_go
def f_X10_figures (a0 : Nat) (a1 : Int32) (a2 : Int32) (a3 : Int32) (M : gM) (K : Int32 → gM → Prop) : Prop :=
  ∀ P7 : Nat → Int32 → Int32 → Int32 → Int32 → gM → Prop,
  (∀ (v0 : Nat) (v1 : Int32) (v2 : Int32) (v3 : Int32) (v4 : Int32) (M : gM), (kd M v0 = some (.inl 10) ∧ f_X10_isAt v0 48 57 M (fun x5 M4 => if x5 = 0 then kd M4 v0 = some (.inl 10) ∧ if (iv M4 v0 9) = (iv M4 v0 11) then K (-1) M4 else if v3 < ((iv M4 v0 9) - (iv M4 v0 11)) then K (-1) M4 else if v4 < v1 then K (-1) M4 else if v4 ≤ v2 then K v4 M4 else K (-1) M4 else kd M4 v0 = some (.inl 10) ∧ if v3 ≤ ((iv M4 v0 9) - (iv M4 v0 11)) then ∀ M14, M14 = sI M4 v0 9 ((iv M4 v0 9) + 1) → P7 v0 v1 v2 v3 v4 M14 else ∃ b15, rv M4 v0 7 = some b15 ∧ inA M4 b15 1 (iv M4 v0 9) ∧ ∀ M18, M18 = sI M4 v0 9 ((iv M4 v0 9) + 1) → P7 v0 v1 v2 v3 ((((10 : Int32) * v4) + (iv M4 b15 (ix (iv M4 v0 9)))) - 48) M18)) → P7 v0 v1 v2 v3 v4 M) →
  kd M a0 = some (.inl 10) ∧ f_X10_blanks a0 M (fun M2 => P7 a0 a1 a2 a3 0 M2)
set_option maxHeartbeats 4000000 in
theorem m_X10_figures {l : Launch} (hl : l.stackTraces = false) {G : gG} {a0 : Nat} {a1 : Int32} {a2 : Int32} {a3 : Int32} {M : gM} {K : Int32 → gM → Prop} (hf : f_X10_figures a0 a1 a2 a3 M K) : gMet l G yX10_figures (ws_ yX10_figures cX10_figures 5 (some Jvm.ClassFile.FieldType.int)) ({ frames := 2, cells := 0, slots := 0, locals := 42 }) M [.ref a0, .int a1, .int a2, .int a3] (kI K) kN := by
  refine gm_of hl (ret := (some Jvm.ClassFile.FieldType.int)) rfl (Nat.le_of_ble_eq_true rfl) (fun X h hq => ?_)
  have h : hX l G X cX10_figures 5 "GlacierMailModel" 2 42 := h
  have hf := hf
  show V l G X 0 0 M 0 [(0, .ref a0), (1, .int a1), (2, .int a2), (3, .int a3)] []
  have hf := hf
    (fun v0 v1 v2 v3 v4 M => V l G X 0 0 M 7 [(0, .ref v0), (1, .int v1), (2, .int v2), (3, .int v3), (4, .int v4)] [])
    (by
      intro v0 v1 v2 v3 v4 M hf
      show V l G X 0 0 M 7 [(0, .ref v0), (1, .int v1), (2, .int v2), (3, .int v3), (4, .int v4)] []
      refine r_aload_n h 0 dX10_figures_7 rfl rfl ?_
      refine r_bipush (v := 48) h dX10_figures_8 (by decide) ?_
      refine r_bipush (v := 57) h dX10_figures_10 (by decide) ?_
      obtain ⟨k3, hf⟩ := hf
      refine c1755 hl h dX10_figures_12 k3 hf (Nat.le_of_ble_eq_true rfl) (by decide) (by decide) (fun x5 M4 hf => ?_)
      refine r_if_eq (tgt := 69) h dX10_figures_15 (by decide) (fun c6 => ?_) (fun c6 => ?_)
      · have hf := ite_t c6 hf
        refine r_aload_n h 0 dX10_figures_69 rfl rfl ?_
        obtain ⟨k7, hf⟩ := hf
        refine g1606 h dX10_figures_70 k7 ?_
        refine r_aload_n h 0 dX10_figures_73 rfl rfl ?_
        refine g1608 h dX10_figures_74 k7 ?_
        refine r_icmp_eq (tgt := 105) h dX10_figures_77 (by decide) (fun c8 => ?_) (fun c8 => ?_)
        · have hf := ite_t c8 hf
          refine r_iconst (v := (-1)) h dX10_figures_105 (by decide) ?_
          refine r_goto (tgt := 111) h dX10_figures_106 (by decide) ?_
          exact r_ireturn h hq dX10_figures_111 ⟨_, rfl, hf⟩
        · have hf := ite_f c8 hf
          refine r_aload_n h 0 dX10_figures_80 rfl rfl ?_
          refine g1606 h dX10_figures_81 k7 ?_
          refine r_aload_n h 0 dX10_figures_84 rfl rfl ?_
          refine g1608 h dX10_figures_85 k7 ?_
          refine r_isub h dX10_figures_88 ?_
          refine r_iload_n h 3 dX10_figures_89 rfl rfl ?_
          refine r_icmp_gt (tgt := 105) h dX10_figures_90 (by decide) (fun c9 => ?_) (fun c9 => ?_)
          · have hf := ite_t c9 hf
            refine r_iconst (v := (-1)) h dX10_figures_105 (by decide) ?_
            refine r_goto (tgt := 111) h dX10_figures_106 (by decide) ?_
            exact r_ireturn h hq dX10_figures_111 ⟨_, rfl, hf⟩
          · have hf := ite_f c9 hf
            refine r_iload h 4 dX10_figures_93 rfl ?_
            refine r_iload_n h 1 dX10_figures_95 rfl rfl ?_
            refine r_icmp_lt (tgt := 105) h dX10_figures_96 (by decide) (fun c10 => ?_) (fun c10 => ?_)
            · have hf := ite_t c10 hf
              refine r_iconst (v := (-1)) h dX10_figures_105 (by decide) ?_
              refine r_goto (tgt := 111) h dX10_figures_106 (by decide) ?_
              exact r_ireturn h hq dX10_figures_111 ⟨_, rfl, hf⟩
            · have hf := ite_f c10 hf
              refine r_iload h 4 dX10_figures_99 rfl ?_
              refine r_iload_n h 2 dX10_figures_101 rfl rfl ?_
              refine r_icmp_le (tgt := 109) h dX10_figures_102 (by decide) (fun c11 => ?_) (fun c11 => ?_)
              · have hf := ite_t c11 hf
                refine r_iload h 4 dX10_figures_109 rfl ?_
                exact r_ireturn h hq dX10_figures_111 ⟨_, rfl, hf⟩
              · have hf := ite_f c11 hf
                refine r_iconst (v := (-1)) h dX10_figures_105 (by decide) ?_
                refine r_goto (tgt := 111) h dX10_figures_106 (by decide) ?_
                exact r_ireturn h hq dX10_figures_111 ⟨_, rfl, hf⟩
      · have hf := ite_f c6 hf
        refine r_aload_n h 0 dX10_figures_18 rfl rfl ?_
        obtain ⟨k12, hf⟩ := hf
        refine g1606 h dX10_figures_19 k12 ?_
        refine r_aload_n h 0 dX10_figures_22 rfl rfl ?_
        refine g1608 h dX10_figures_23 k12 ?_
        refine r_isub h dX10_figures_26 ?_
        refine r_iload_n h 3 dX10_figures_27 rfl rfl ?_
        refine r_icmp_ge (tgt := 52) h dX10_figures_28 (by decide) (fun c13 => ?_) (fun c13 => ?_)
        · have hf := ite_t c13 hf
          refine r_iload h 4 dX10_figures_52 rfl ?_
          refine r_istore (lv' := [(4, .int v4), (0, .ref v0), (1, .int v1), (2, .int v2), (3, .int v3)]) h dX10_figures_54 (by decide) rfl ?_
          refine r_aload_n h 1 dX10_figures_56 rfl rfl ?_
          refine r_dup h dX10_figures_57 rfl ?_
          refine g1606 h dX10_figures_58 k12 ?_
          refine r_iconst (v := 1) h dX10_figures_61 (by decide) ?_
          refine r_iadd h dX10_figures_62 ?_
          refine p1606 h dX10_figures_63 k12 ?_
          refine r_goW (fun M14 eM14 => ?_)
          have hf := hf M14 eM14
          refine r_goto (tgt := 7) h dX10_figures_66 (by decide) ?_
          exact V.sub [1, 2, 3, 4, 0] rfl hf
        · have hf := ite_f c13 hf
          refine r_bipush (v := 10) h dX10_figures_31 (by decide) ?_
          refine r_iload h 4 dX10_figures_33 rfl ?_
          refine r_imul h dX10_figures_35 ?_
          refine r_aload_n h 0 dX10_figures_36 rfl rfl ?_
          obtain ⟨b15, e16, hf⟩ := hf
          refine g1604 h dX10_figures_37 k12 e16 ?_
          refine r_aload_n h 0 dX10_figures_40 rfl rfl ?_
          refine g1606 h dX10_figures_41 k12 ?_
          obtain ⟨j17, hf⟩ := hf
          refine r_baload h dX10_figures_44 j17 ?_
          refine r_iadd h dX10_figures_45 ?_
          refine r_bipush (v := 48) h dX10_figures_46 (by decide) ?_
          refine r_isub h dX10_figures_48 ?_
          refine r_goto (tgt := 54) h dX10_figures_49 (by decide) ?_
          refine r_istore (lv' := [(4, .int ((((10 : Int32) * v4) + (iv M4 b15 (ix (iv M4 v0 9)))) - 48)), (0, .ref v0), (1, .int v1), (2, .int v2), (3, .int v3)]) h dX10_figures_54 (by decide) rfl ?_
          refine r_aload_n h 1 dX10_figures_56 rfl rfl ?_
          refine r_dup h dX10_figures_57 rfl ?_
          refine g1606 h dX10_figures_58 k12 ?_
          refine r_iconst (v := 1) h dX10_figures_61 (by decide) ?_
          refine r_iadd h dX10_figures_62 ?_
          refine p1606 h dX10_figures_63 k12 ?_
          refine r_goW (fun M18 eM18 => ?_)
          have hf := hf M18 eM18
          refine r_goto (tgt := 7) h dX10_figures_66 (by decide) ?_
          exact V.sub [1, 2, 3, 4, 0] rfl hf)
  refine r_aload_n h 0 dX10_figures_0 rfl rfl ?_
  obtain ⟨k1, hf⟩ := hf
  refine c1751 hl h dX10_figures_1 k1 hf (Nat.le_of_ble_eq_true rfl) (by decide) (by decide) (fun M2 hf => ?_)
  refine r_iconst (v := 0) h dX10_figures_4 (by decide) ?_
  refine r_istore (lv' := [(4, .int 0), (0, .ref a0), (1, .int a1), (2, .int a2), (3, .int a3)]) h dX10_figures_5 (by decide) rfl ?_
  exact V.sub [1, 2, 3, 4, 0] rfl hf
theorem c1798 {l : Launch} {G : gG} {X : gX} {cc : ByteArray} {nL F L bc bs pc : Nat} {M : gM} {lv : List (Nat × Value)} {rest : List Value} {a0 : Nat} {a1 : Int32} {a2 : Int32} {a3 : Int32} {K : Int32 → gM → Prop} (hl : l.stackTraces = false) (h : hX l G X cc nL "GlacierMailModel" F L) (d : decode cc pc = .ok (.invokevirtual 138, 3)) (hk : kd M a0 = some (.inl 10)) (hf : f_X10_figures a0 a1 a2 a3 M K) (hst : (rest.map fun v => v.category).sum ≤ 8) (hF : 3 ≤ F) (hL : 66 ≤ L) (kk : ∀ x M1, K x M1 → V l G X bc bs M1 (pc + 3) lv (.int x :: rest)) : V l G X bc bs M pc lv (.int a3 :: .int a2 :: .int a1 :: .ref a0 :: rest) := r_callV (n := 3) (As := [.int a1, .int a2, .int a3]) h (m_X10_figures hl hf) 10 rfl hk rfl ⟨by decide, by decide, by decide +kernel⟩ d q1798 q1800 qs65 q147 q1801 rfl rfl hst hF hL (Nat.zero_le _) (Nat.zero_le _) (kI_go kk) kN_go
def f_X10_number (a0 : Nat) (a1 : Int32) (a2 : Int32) (M : gM) (K : Int32 → gM → Prop) : Prop :=
  kd M a0 = some (.inl 10) ∧ f_X10_figures a0 a1 a2 4 M (fun x3 M2 => K x3 M2)
set_option maxHeartbeats 4000000 in
theorem m_X10_number {l : Launch} (hl : l.stackTraces = false) {G : gG} {a0 : Nat} {a1 : Int32} {a2 : Int32} {M : gM} {K : Int32 → gM → Prop} (hf : f_X10_number a0 a1 a2 M K) : gMet l G yX10_number (ws_ yX10_number cX10_number 3 (some Jvm.ClassFile.FieldType.int)) ({ frames := 3, cells := 0, slots := 0, locals := 66 }) M [.ref a0, .int a1, .int a2] (kI K) kN := by
  refine gm_of hl (ret := (some Jvm.ClassFile.FieldType.int)) rfl (Nat.le_of_ble_eq_true rfl) (fun X h hq => ?_)
  have h : hX l G X cX10_number 3 "GlacierMailModel" 3 66 := h
  have hf := hf
  show V l G X 0 0 M 0 [(0, .ref a0), (1, .int a1), (2, .int a2)] []
  unfold f_X10_number at hf
  refine r_aload_n h 0 dX10_number_0 rfl rfl ?_
  refine r_iload_n h 1 dX10_number_1 rfl rfl ?_
  refine r_iload_n h 2 dX10_number_2 rfl rfl ?_
  refine r_iconst (v := 4) h dX10_number_3 (by decide) ?_
  obtain ⟨k1, hf⟩ := hf
  refine c1798 hl h dX10_number_4 k1 hf (Nat.le_of_ble_eq_true rfl) (by decide) (by decide) (fun x3 M2 hf => ?_)
  exact r_ireturn h hq dX10_number_7 ⟨_, rfl, hf⟩
theorem c1794 {l : Launch} {G : gG} {X : gX} {cc : ByteArray} {nL F L bc bs pc : Nat} {M : gM} {lv : List (Nat × Value)} {rest : List Value} {a0 : Nat} {a1 : Int32} {a2 : Int32} {K : Int32 → gM → Prop} (hl : l.stackTraces = false) (h : hX l G X cc nL "GlacierMailModel" F L) (d : decode cc pc = .ok (.invokevirtual 142, 3)) (hk : kd M a0 = some (.inl 10)) (hf : f_X10_number a0 a1 a2 M K) (hst : (rest.map fun v => v.category).sum ≤ 8) (hF : 4 ≤ F) (hL : 88 ≤ L) (kk : ∀ x M1, K x M1 → V l G X bc bs M1 (pc + 3) lv (.int x :: rest)) : V l G X bc bs M pc lv (.int a2 :: .int a1 :: .ref a0 :: rest) := r_callV (n := 2) (As := [.int a1, .int a2]) h (m_X10_number hl hf) 10 rfl hk rfl ⟨by decide, by decide, by decide +kernel⟩ d q1794 q1796 qs64 q147 q1797 rfl rfl hst hF hL (Nat.zero_le _) (Nat.zero_le _) (kI_go kk) kN_go
def f_X10_readLanes (a0 : Nat) (M : gM) (K : Int32 → gM → Prop) : Prop :=
  kd M a0 = some (.inl 10) ∧ f_X10_isEmpty a0 M (fun x3 M2 => if x3 = 0 then K 0 M2 else kd M2 a0 = some (.inl 10) ∧ f_X10_number a0 1 6 M2 (fun x7 M6 => if 0 ≤ x7 then kd M6 a0 = some (.inl 10) ∧ ∃ b10, rv M6 a0 1 = some b10 ∧ inA M6 b10 0 0 ∧ ∀ M13, M13 = sI M6 b10 (ix 0) x7 → kd M13 a0 = some (.inl 10) ∧ ∃ b15, rv M13 a0 1 = some b15 ∧ inA M13 b15 0 12 ∧ ∀ M18, M18 = sI M13 b15 (ix 12) x7 → K 1 M18 else K 0 M6))
set_option maxHeartbeats 4000000 in
theorem m_X10_readLanes {l : Launch} (hl : l.stackTraces = false) {G : gG} {a0 : Nat} {M : gM} {K : Int32 → gM → Prop} (hf : f_X10_readLanes a0 M K) : gMet l G yX10_readLanes (ws_ yX10_readLanes cX10_readLanes 2 (some Jvm.ClassFile.FieldType.boolean)) ({ frames := 4, cells := 0, slots := 0, locals := 88 }) M [.ref a0] (kI K) kN := by
  refine gm_of hl (ret := (some Jvm.ClassFile.FieldType.boolean)) rfl (Nat.le_of_ble_eq_true rfl) (fun X h hq => ?_)
  have h : hX l G X cX10_readLanes 2 "GlacierMailModel" 4 88 := h
  have hf := hf
  show V l G X 0 0 M 0 [(0, .ref a0)] []
  unfold f_X10_readLanes at hf
  refine r_aload_n h 0 dX10_readLanes_0 rfl rfl ?_
  obtain ⟨k1, hf⟩ := hf
  refine c1782 hl h dX10_readLanes_1 k1 hf (Nat.le_of_ble_eq_true rfl) (by decide) (by decide) (fun x3 M2 hf => ?_)
  refine r_if_ne (tgt := 9) h dX10_readLanes_4 (by decide) (fun c4 => ?_) (fun c4 => ?_)
  · have hf := ite_f c4 hf
    refine r_aload_n h 0 dX10_readLanes_9 rfl rfl ?_
    refine r_iconst (v := 1) h dX10_readLanes_10 (by decide) ?_
    refine r_bipush (v := 6) h dX10_readLanes_11 (by decide) ?_
    obtain ⟨k5, hf⟩ := hf
    refine c1794 hl h dX10_readLanes_13 k5 hf (Nat.le_of_ble_eq_true rfl) (by decide) (by decide) (fun x7 M6 hf => ?_)
    refine r_istore_n (lv' := [(1, .int x7), (0, .ref a0)]) h dX10_readLanes_16 rfl (by decide) rfl ?_
    refine r_iload_n h 0 dX10_readLanes_17 rfl rfl ?_
    refine r_if_ge (tgt := 23) h dX10_readLanes_18 (by decide) (fun c8 => ?_) (fun c8 => ?_)
    · have hf := ite_t c8 hf
      refine r_aload_n h 1 dX10_readLanes_23 rfl rfl ?_
      obtain ⟨k9, hf⟩ := hf
      obtain ⟨b10, e11, hf⟩ := hf
      refine g1598 h dX10_readLanes_24 k9 e11 ?_
      refine r_iconst (v := 0) h dX10_readLanes_27 (by decide) ?_
      refine r_iload_n h 0 dX10_readLanes_28 rfl rfl ?_
      obtain ⟨j12, hf⟩ := hf
      refine r_iastore h dX10_readLanes_29 j12 ?_
      refine r_goW (fun M13 eM13 => ?_)
      have hf := hf M13 eM13
      refine r_aload_n h 1 dX10_readLanes_30 rfl rfl ?_
      obtain ⟨k14, hf⟩ := hf
      obtain ⟨b15, e16, hf⟩ := hf
      refine g1598 h dX10_readLanes_31 k14 e16 ?_
      refine r_bipush (v := 12) h dX10_readLanes_34 (by decide) ?_
      refine r_iload_n h 0 dX10_readLanes_36 rfl rfl ?_
      obtain ⟨j17, hf⟩ := hf
      refine r_iastore h dX10_readLanes_37 j17 ?_
      refine r_goW (fun M18 eM18 => ?_)
      have hf := hf M18 eM18
      refine r_iconst (v := 1) h dX10_readLanes_38 (by decide) ?_
      exact r_zreturn h hq dX10_readLanes_39 (by decide) ⟨_, rfl, hf⟩
    · have hf := ite_f c8 hf
      refine r_iconst (v := 0) h dX10_readLanes_21 (by decide) ?_
      exact r_zreturn h hq dX10_readLanes_22 (by decide) ⟨_, rfl, hf⟩
  · have hf := ite_t c4 hf
    refine r_iconst (v := 0) h dX10_readLanes_7 (by decide) ?_
    exact r_zreturn h hq dX10_readLanes_8 (by decide) ⟨_, rfl, hf⟩
theorem c1778 {l : Launch} {G : gG} {X : gX} {cc : ByteArray} {nL F L bc bs pc : Nat} {M : gM} {lv : List (Nat × Value)} {rest : List Value} {a0 : Nat} {K : Int32 → gM → Prop} (hl : l.stackTraces = false) (h : hX l G X cc nL "GlacierMailModel" F L) (d : decode cc pc = .ok (.invokevirtual 182, 3)) (hk : kd M a0 = some (.inl 10)) (hf : f_X10_readLanes a0 M K) (hst : (rest.map fun v => v.category).sum ≤ 8) (hF : 5 ≤ F) (hL : 109 ≤ L) (kk : ∀ x M1, K x M1 → V l G X bc bs M1 (pc + 3) lv (.int x :: rest)) : V l G X bc bs M pc lv (.ref a0 :: rest) := r_callV (n := 0) (As := []) h (m_X10_readLanes hl hf) 10 rfl hk rfl ⟨by decide, by decide, by decide +kernel⟩ d q1778 q1780 qs60 q147 q1781 rfl rfl hst hF hL (Nat.zero_le _) (Nat.zero_le _) (kI_go kk) kN_go
def f_X10_readLast (a0 : Nat) (M : gM) (K : Int32 → gM → Prop) : Prop :=
  kd M a0 = some (.inl 10) ∧ f_X10_isEmpty a0 M (fun x3 M2 => if x3 = 0 then K 0 M2 else kd M2 a0 = some (.inl 10) ∧ f_X10_number a0 10 99 M2 (fun x7 M6 => if 0 ≤ x7 then kd M6 a0 = some (.inl 10) ∧ ∃ b10, rv M6 a0 1 = some b10 ∧ inA M6 b10 0 1 ∧ ∀ M13, M13 = sI M6 b10 (ix 1) x7 → kd M13 a0 = some (.inl 10) ∧ ∃ b15, rv M13 a0 1 = some b15 ∧ inA M13 b15 0 10 ∧ ∀ M18, M18 = sI M13 b15 (ix 10) 10 → K 1 M18 else K 0 M6))
set_option maxHeartbeats 4000000 in
theorem m_X10_readLast {l : Launch} (hl : l.stackTraces = false) {G : gG} {a0 : Nat} {M : gM} {K : Int32 → gM → Prop} (hf : f_X10_readLast a0 M K) : gMet l G yX10_readLast (ws_ yX10_readLast cX10_readLast 2 (some Jvm.ClassFile.FieldType.boolean)) ({ frames := 4, cells := 0, slots := 0, locals := 88 }) M [.ref a0] (kI K) kN := by
  refine gm_of hl (ret := (some Jvm.ClassFile.FieldType.boolean)) rfl (Nat.le_of_ble_eq_true rfl) (fun X h hq => ?_)
  have h : hX l G X cX10_readLast 2 "GlacierMailModel" 4 88 := h
  have hf := hf
  show V l G X 0 0 M 0 [(0, .ref a0)] []
  unfold f_X10_readLast at hf
  refine r_aload_n h 0 dX10_readLast_0 rfl rfl ?_
  obtain ⟨k1, hf⟩ := hf
  refine c1782 hl h dX10_readLast_1 k1 hf (Nat.le_of_ble_eq_true rfl) (by decide) (by decide) (fun x3 M2 hf => ?_)
  refine r_if_ne (tgt := 9) h dX10_readLast_4 (by decide) (fun c4 => ?_) (fun c4 => ?_)
  · have hf := ite_f c4 hf
    refine r_aload_n h 0 dX10_readLast_9 rfl rfl ?_
    refine r_bipush (v := 10) h dX10_readLast_10 (by decide) ?_
    refine r_bipush (v := 99) h dX10_readLast_12 (by decide) ?_
    obtain ⟨k5, hf⟩ := hf
    refine c1794 hl h dX10_readLast_14 k5 hf (Nat.le_of_ble_eq_true rfl) (by decide) (by decide) (fun x7 M6 hf => ?_)
    refine r_istore_n (lv' := [(1, .int x7), (0, .ref a0)]) h dX10_readLast_17 rfl (by decide) rfl ?_
    refine r_iload_n h 0 dX10_readLast_18 rfl rfl ?_
    refine r_if_ge (tgt := 24) h dX10_readLast_19 (by decide) (fun c8 => ?_) (fun c8 => ?_)
    · have hf := ite_t c8 hf
      refine r_aload_n h 1 dX10_readLast_24 rfl rfl ?_
      obtain ⟨k9, hf⟩ := hf
      obtain ⟨b10, e11, hf⟩ := hf
      refine g1598 h dX10_readLast_25 k9 e11 ?_
      refine r_iconst (v := 1) h dX10_readLast_28 (by decide) ?_
      refine r_iload_n h 0 dX10_readLast_29 rfl rfl ?_
      obtain ⟨j12, hf⟩ := hf
      refine r_iastore h dX10_readLast_30 j12 ?_
      refine r_goW (fun M13 eM13 => ?_)
      have hf := hf M13 eM13
      refine r_aload_n h 1 dX10_readLast_31 rfl rfl ?_
      obtain ⟨k14, hf⟩ := hf
      obtain ⟨b15, e16, hf⟩ := hf
      refine g1598 h dX10_readLast_32 k14 e16 ?_
      refine r_bipush (v := 10) h dX10_readLast_35 (by decide) ?_
      refine r_bipush (v := 10) h dX10_readLast_37 (by decide) ?_
      obtain ⟨j17, hf⟩ := hf
      refine r_iastore h dX10_readLast_39 j17 ?_
      refine r_goW (fun M18 eM18 => ?_)
      have hf := hf M18 eM18
      refine r_iconst (v := 1) h dX10_readLast_40 (by decide) ?_
      exact r_zreturn h hq dX10_readLast_41 (by decide) ⟨_, rfl, hf⟩
    · have hf := ite_f c8 hf
      refine r_iconst (v := 0) h dX10_readLast_22 (by decide) ?_
      exact r_zreturn h hq dX10_readLast_23 (by decide) ⟨_, rfl, hf⟩
  · have hf := ite_t c4 hf
    refine r_iconst (v := 0) h dX10_readLast_7 (by decide) ?_
    exact r_zreturn h hq dX10_readLast_8 (by decide) ⟨_, rfl, hf⟩
theorem c1803 {l : Launch} {G : gG} {X : gX} {cc : ByteArray} {nL F L bc bs pc : Nat} {M : gM} {lv : List (Nat × Value)} {rest : List Value} {a0 : Nat} {K : Int32 → gM → Prop} (hl : l.stackTraces = false) (h : hX l G X cc nL "GlacierMailModel" F L) (d : decode cc pc = .ok (.invokevirtual 187, 3)) (hk : kd M a0 = some (.inl 10)) (hf : f_X10_readLast a0 M K) (hst : (rest.map fun v => v.category).sum ≤ 8) (hF : 5 ≤ F) (hL : 109 ≤ L) (kk : ∀ x M1, K x M1 → V l G X bc bs M1 (pc + 3) lv (.int x :: rest)) : V l G X bc bs M pc lv (.ref a0 :: rest) := r_callV (n := 0) (As := []) h (m_X10_readLast hl hf) 10 rfl hk rfl ⟨by decide, by decide, by decide +kernel⟩ d q1803 q1805 qs66 q147 q1806 rfl rfl hst hF hL (Nat.zero_le _) (Nat.zero_le _) (kI_go kk) kN_go
def f_X10_lip (a0 : Nat) (M : gM) (K : Int32 → gM → Prop) : Prop :=
  kd M a0 = some (.inl 10) ∧ ∃ b2, rv M a0 1 = some b2 ∧ inA M b2 0 1 ∧ K (iv M b2 (ix 1)) M
set_option maxHeartbeats 4000000 in
theorem m_X10_lip {l : Launch} (hl : l.stackTraces = false) {G : gG} {a0 : Nat} {M : gM} {K : Int32 → gM → Prop} (hf : f_X10_lip a0 M K) : gMet l G yX10_lip (ws_ yX10_lip cX10_lip 1 (some Jvm.ClassFile.FieldType.int)) ({ frames := 0, cells := 0, slots := 0, locals := 0 }) M [.ref a0] (kI K) kN := by
  refine gm_of hl (ret := (some Jvm.ClassFile.FieldType.int)) rfl (Nat.le_of_ble_eq_true rfl) (fun X h hq => ?_)
  have h : hX l G X cX10_lip 1 "GlacierMailModel" 0 0 := h
  have hf := hf
  show V l G X 0 0 M 0 [(0, .ref a0)] []
  unfold f_X10_lip at hf
  refine r_aload_n h 0 dX10_lip_0 rfl rfl ?_
  obtain ⟨k1, hf⟩ := hf
  obtain ⟨b2, e3, hf⟩ := hf
  refine g1598 h dX10_lip_1 k1 e3 ?_
  refine r_iconst (v := 1) h dX10_lip_4 (by decide) ?_
  obtain ⟨j4, hf⟩ := hf
  refine r_iaload h dX10_lip_5 j4 ?_
  exact r_ireturn h hq dX10_lip_6 ⟨_, rfl, hf⟩
theorem c1812 {l : Launch} {G : gG} {X : gX} {cc : ByteArray} {nL F L bc bs pc : Nat} {M : gM} {lv : List (Nat × Value)} {rest : List Value} {a0 : Nat} {K : Int32 → gM → Prop} (hl : l.stackTraces = false) (h : hX l G X cc nL "GlacierMailModel" F L) (d : decode cc pc = .ok (.invokevirtual 94, 3)) (hk : kd M a0 = some (.inl 10)) (hf : f_X10_lip a0 M K) (hst : (rest.map fun v => v.category).sum ≤ 8) (hF : 1 ≤ F) (hL : 20 ≤ L) (kk : ∀ x M1, K x M1 → V l G X bc bs M1 (pc + 3) lv (.int x :: rest)) : V l G X bc bs M pc lv (.ref a0 :: rest) := r_callV (n := 0) (As := []) h (m_X10_lip hl hf) 10 rfl hk rfl ⟨by decide, by decide, by decide +kernel⟩ d q1812 q1814 qs68 q147 q1815 rfl rfl hst hF hL (Nat.zero_le _) (Nat.zero_le _) (kI_go kk) kN_go
def f_X10_lanes (a0 : Nat) (M : gM) (K : Int32 → gM → Prop) : Prop :=
  kd M a0 = some (.inl 10) ∧ ∃ b2, rv M a0 1 = some b2 ∧ inA M b2 0 0 ∧ K (iv M b2 (ix 0)) M
set_option maxHeartbeats 4000000 in
theorem m_X10_lanes {l : Launch} (hl : l.stackTraces = false) {G : gG} {a0 : Nat} {M : gM} {K : Int32 → gM → Prop} (hf : f_X10_lanes a0 M K) : gMet l G yX10_lanes (ws_ yX10_lanes cX10_lanes 1 (some Jvm.ClassFile.FieldType.int)) ({ frames := 0, cells := 0, slots := 0, locals := 0 }) M [.ref a0] (kI K) kN := by
  refine gm_of hl (ret := (some Jvm.ClassFile.FieldType.int)) rfl (Nat.le_of_ble_eq_true rfl) (fun X h hq => ?_)
  have h : hX l G X cX10_lanes 1 "GlacierMailModel" 0 0 := h
  have hf := hf
  show V l G X 0 0 M 0 [(0, .ref a0)] []
  unfold f_X10_lanes at hf
  refine r_aload_n h 0 dX10_lanes_0 rfl rfl ?_
  obtain ⟨k1, hf⟩ := hf
  obtain ⟨b2, e3, hf⟩ := hf
  refine g1598 h dX10_lanes_1 k1 e3 ?_
  refine r_iconst (v := 0) h dX10_lanes_4 (by decide) ?_
  obtain ⟨j4, hf⟩ := hf
  refine r_iaload h dX10_lanes_5 j4 ?_
  exact r_ireturn h hq dX10_lanes_6 ⟨_, rfl, hf⟩
theorem c1820 {l : Launch} {G : gG} {X : gX} {cc : ByteArray} {nL F L bc bs pc : Nat} {M : gM} {lv : List (Nat × Value)} {rest : List Value} {a0 : Nat} {K : Int32 → gM → Prop} (hl : l.stackTraces = false) (h : hX l G X cc nL "GlacierMailModel" F L) (d : decode cc pc = .ok (.invokevirtual 86, 3)) (hk : kd M a0 = some (.inl 10)) (hf : f_X10_lanes a0 M K) (hst : (rest.map fun v => v.category).sum ≤ 8) (hF : 1 ≤ F) (hL : 20 ≤ L) (kk : ∀ x M1, K x M1 → V l G X bc bs M1 (pc + 3) lv (.int x :: rest)) : V l G X bc bs M pc lv (.ref a0 :: rest) := r_callV (n := 0) (As := []) h (m_X10_lanes hl hf) 10 rfl hk rfl ⟨by decide, by decide, by decide +kernel⟩ d q1820 q1822 qs70 q147 q1823 rfl rfl hst hF hL (Nat.zero_le _) (Nat.zero_le _) (kI_go kk) kN_go
def f_X10_readSpeeds (a0 : Nat) (a1 : Int32) (M : gM) (K : Int32 → gM → Prop) : Prop :=
  ∀ P2 : Nat → Int32 → Int32 → gM → Prop,
  (∀ (v0 : Nat) (v1 : Int32) (v2 : Int32) (M : gM), (kd M v0 = some (.inl 10) ∧ f_X10_lanes v0 M (fun x3 M2 => if x3 ≤ v2 then K 1 M2 else kd M2 v0 = some (.inl 10) ∧ f_X10_number v0 0 20 M2 (fun x7 M6 => if 0 ≤ x7 then kd M6 v0 = some (.inl 10) ∧ ∃ b10, rv M6 v0 1 = some b10 ∧ inA M6 b10 0 (v1 + v2) ∧ ∀ M13, M13 = sI M6 b10 (ix (v1 + v2)) x7 → P2 v0 v1 (v2 + 1) M13 else K 0 M6))) → P2 v0 v1 v2 M) →
  P2 a0 a1 0 M
set_option maxHeartbeats 4000000 in
theorem m_X10_readSpeeds {l : Launch} (hl : l.stackTraces = false) {G : gG} {a0 : Nat} {a1 : Int32} {M : gM} {K : Int32 → gM → Prop} (hf : f_X10_readSpeeds a0 a1 M K) : gMet l G yX10_readSpeeds (ws_ yX10_readSpeeds cX10_readSpeeds 4 (some Jvm.ClassFile.FieldType.boolean)) ({ frames := 4, cells := 0, slots := 0, locals := 88 }) M [.ref a0, .int a1] (kI K) kN := by
  refine gm_of hl (ret := (some Jvm.ClassFile.FieldType.boolean)) rfl (Nat.le_of_ble_eq_true rfl) (fun X h hq => ?_)
  have h : hX l G X cX10_readSpeeds 4 "GlacierMailModel" 4 88 := h
  have hf := hf
  show V l G X 0 0 M 0 [(0, .ref a0), (1, .int a1)] []
  have hf := hf
    (fun v0 v1 v2 M => V l G X 0 0 M 2 [(0, .ref v0), (1, .int v1), (2, .int v2)] [])
    (by
      intro v0 v1 v2 M hf
      show V l G X 0 0 M 2 [(0, .ref v0), (1, .int v1), (2, .int v2)] []
      refine r_iload_n h 2 dX10_readSpeeds_2 rfl rfl ?_
      refine r_aload_n h 0 dX10_readSpeeds_3 rfl rfl ?_
      obtain ⟨k1, hf⟩ := hf
      refine c1820 hl h dX10_readSpeeds_4 k1 hf (Nat.le_of_ble_eq_true rfl) (by decide) (by decide) (fun x3 M2 hf => ?_)
      refine r_icmp_ge (tgt := 39) h dX10_readSpeeds_7 (by decide) (fun c4 => ?_) (fun c4 => ?_)
      · have hf := ite_t c4 hf
        refine r_iconst (v := 1) h dX10_readSpeeds_39 (by decide) ?_
        exact r_zreturn h hq dX10_readSpeeds_40 (by decide) ⟨_, rfl, hf⟩
      · have hf := ite_f c4 hf
        refine r_aload_n h 0 dX10_readSpeeds_10 rfl rfl ?_
        refine r_iconst (v := 0) h dX10_readSpeeds_11 (by decide) ?_
        refine r_bipush (v := 20) h dX10_readSpeeds_12 (by decide) ?_
        obtain ⟨k5, hf⟩ := hf
        refine c1794 hl h dX10_readSpeeds_14 k5 hf (Nat.le_of_ble_eq_true rfl) (by decide) (by decide) (fun x7 M6 hf => ?_)
        refine r_istore_n (lv' := [(3, .int x7), (0, .ref v0), (1, .int v1), (2, .int v2)]) h dX10_readSpeeds_17 rfl (by decide) rfl ?_
        refine r_iload_n h 0 dX10_readSpeeds_18 rfl rfl ?_
        refine r_if_ge (tgt := 24) h dX10_readSpeeds_19 (by decide) (fun c8 => ?_) (fun c8 => ?_)
        · have hf := ite_t c8 hf
          refine r_aload_n h 1 dX10_readSpeeds_24 rfl rfl ?_
          obtain ⟨k9, hf⟩ := hf
          obtain ⟨b10, e11, hf⟩ := hf
          refine g1598 h dX10_readSpeeds_25 k9 e11 ?_
          refine r_iload_n h 2 dX10_readSpeeds_28 rfl rfl ?_
          refine r_iload_n h 3 dX10_readSpeeds_29 rfl rfl ?_
          refine r_iadd h dX10_readSpeeds_30 ?_
          refine r_iload_n h 0 dX10_readSpeeds_31 rfl rfl ?_
          obtain ⟨j12, hf⟩ := hf
          refine r_iastore h dX10_readSpeeds_32 j12 ?_
          refine r_goW (fun M13 eM13 => ?_)
          have hf := hf M13 eM13
          refine r_iinc (v := v2 + 1) (lv' := [(2, .int (v2 + 1)), (3, .int x7), (0, .ref v0), (1, .int v1)]) h 3 dX10_readSpeeds_33 rfl rfl (by decide) rfl ?_
          refine r_goto (tgt := 2) h dX10_readSpeeds_36 (by decide) ?_
          exact V.sub [2, 3, 0] rfl hf
        · have hf := ite_f c8 hf
          refine r_iconst (v := 0) h dX10_readSpeeds_22 (by decide) ?_
          exact r_zreturn h hq dX10_readSpeeds_23 (by decide) ⟨_, rfl, hf⟩)
  refine r_iconst (v := 0) h dX10_readSpeeds_0 (by decide) ?_
  refine r_istore_n (lv' := [(2, .int 0), (0, .ref a0), (1, .int a1)]) h dX10_readSpeeds_1 rfl (by decide) rfl ?_
  exact V.sub [1, 2, 0] rfl hf
theorem c1816 {l : Launch} {G : gG} {X : gX} {cc : ByteArray} {nL F L bc bs pc : Nat} {M : gM} {lv : List (Nat × Value)} {rest : List Value} {a0 : Nat} {a1 : Int32} {K : Int32 → gM → Prop} (hl : l.stackTraces = false) (h : hX l G X cc nL "GlacierMailModel" F L) (d : decode cc pc = .ok (.invokevirtual 149, 3)) (hk : kd M a0 = some (.inl 10)) (hf : f_X10_readSpeeds a0 a1 M K) (hst : (rest.map fun v => v.category).sum ≤ 8) (hF : 5 ≤ F) (hL : 111 ≤ L) (kk : ∀ x M1, K x M1 → V l G X bc bs M1 (pc + 3) lv (.int x :: rest)) : V l G X bc bs M pc lv (.int a1 :: .ref a0 :: rest) := r_callV (n := 1) (As := [.int a1]) h (m_X10_readSpeeds hl hf) 10 rfl hk rfl ⟨by decide, by decide, by decide +kernel⟩ d q1816 q1818 qs69 q147 q1819 rfl rfl hst hF hL (Nat.zero_le _) (Nat.zero_le _) (kI_go kk) kN_go
def f_X10_readSection (a0 : Nat) (M : gM) (K : Int32 → gM → Prop) : Prop :=
  ∀ P57 : Nat → Int32 → Int32 → gM → Prop,
  (∀ (v0 : Nat) (v2 : Int32) (s0 : Int32) (M : gM), (if s0 < 0 then K 0 M else kd M v0 = some (.inl 10) ∧ f_X10_readSpeeds v0 (v2 + 1) M (fun x20 M19 => if x20 = 0 then K 0 M19 else kd M19 v0 = some (.inl 10) ∧ ∃ b23, rv M19 v0 1 = some b23 ∧ inA M19 b23 0 v2 ∧ ∀ M26, M26 = sI M19 b23 (ix v2) s0 → kd M26 v0 = some (.inl 10) ∧ ∃ b28, rv M26 v0 1 = some b28 ∧ inA M26 b28 0 2 ∧ inA M26 b28 0 2 ∧ ∀ M32, M32 = sI M26 b28 (ix 2) ((iv M26 b28 (ix 2)) + 1) → K 1 M32)) → P57 v0 v2 s0 M) →
  kd M a0 = some (.inl 10) ∧ ∃ b2, rv M a0 1 = some b2 ∧ inA M b2 0 2 ∧ if (iv M b2 (ix 2)) = 8 then K 0 M else if (iv M b2 (ix 2)) = 0 then f_X10_number a0 0 0 M (fun x16 M15 => P57 a0 ((15 : Int32) + ((7 : Int32) * (iv M b2 (ix 2)))) x16 M15) else ∃ b7, rv M a0 1 = some b7 ∧ inA M b7 0 (((15 : Int32) + ((7 : Int32) * (iv M b2 (ix 2)))) - 7) ∧ f_X10_lip a0 M (fun x11 M10 => kd M10 a0 = some (.inl 10) ∧ f_X10_number a0 ((iv M b7 (ix (((15 : Int32) + ((7 : Int32) * (iv M b2 (ix 2)))) - 7))) + 1) (x11 - 1) M10 (fun x14 M13 => P57 a0 ((15 : Int32) + ((7 : Int32) * (iv M b2 (ix 2)))) x14 M13))
set_option maxHeartbeats 4000000 in
theorem m_X10_readSection {l : Launch} (hl : l.stackTraces = false) {G : gG} {a0 : Nat} {M : gM} {K : Int32 → gM → Prop} (hf : f_X10_readSection a0 M K) : gMet l G yX10_readSection (ws_ yX10_readSection cX10_readSection 4 (some Jvm.ClassFile.FieldType.boolean)) ({ frames := 5, cells := 0, slots := 0, locals := 111 }) M [.ref a0] (kI K) kN := by
  refine gm_of hl (ret := (some Jvm.ClassFile.FieldType.boolean)) rfl (Nat.le_of_ble_eq_true rfl) (fun X h hq => ?_)
  have h : hX l G X cX10_readSection 4 "GlacierMailModel" 5 111 := h
  have hf := hf
  show V l G X 0 0 M 0 [(0, .ref a0)] []
  have hf := hf
    (fun v0 v2 s0 M => V l G X 0 0 M 57 [(0, .ref v0), (2, .int v2)] [.int s0])
    (by
      intro v0 v2 s0 M hf
      show V l G X 0 0 M 57 [(0, .ref v0), (2, .int v2)] [.int s0]
      refine r_istore_n (lv' := [(3, .int s0), (0, .ref v0), (2, .int v2)]) h dX10_readSection_57 rfl (by decide) rfl ?_
      refine r_iload_n h 0 dX10_readSection_58 rfl rfl ?_
      refine r_if_lt (tgt := 72) h dX10_readSection_59 (by decide) (fun c17 => ?_) (fun c17 => ?_)
      · have hf := ite_t c17 hf
        refine r_iconst (v := 0) h dX10_readSection_72 (by decide) ?_
        exact r_zreturn h hq dX10_readSection_73 (by decide) ⟨_, rfl, hf⟩
      · have hf := ite_f c17 hf
        refine r_aload_n h 1 dX10_readSection_62 rfl rfl ?_
        refine r_iload_n h 2 dX10_readSection_63 rfl rfl ?_
        refine r_iconst (v := 1) h dX10_readSection_64 (by decide) ?_
        refine r_iadd h dX10_readSection_65 ?_
        obtain ⟨k18, hf⟩ := hf
        refine c1816 hl h dX10_readSection_66 k18 hf (Nat.le_of_ble_eq_true rfl) (by decide) (by decide) (fun x20 M19 hf => ?_)
        refine r_if_ne (tgt := 74) h dX10_readSection_69 (by decide) (fun c21 => ?_) (fun c21 => ?_)
        · have hf := ite_f c21 hf
          refine r_aload_n h 1 dX10_readSection_74 rfl rfl ?_
          obtain ⟨k22, hf⟩ := hf
          obtain ⟨b23, e24, hf⟩ := hf
          refine g1598 h dX10_readSection_75 k22 e24 ?_
          refine r_iload_n h 2 dX10_readSection_78 rfl rfl ?_
          refine r_iload_n h 0 dX10_readSection_79 rfl rfl ?_
          obtain ⟨j25, hf⟩ := hf
          refine r_iastore h dX10_readSection_80 j25 ?_
          refine r_goW (fun M26 eM26 => ?_)
          have hf := hf M26 eM26
          refine r_aload_n h 1 dX10_readSection_81 rfl rfl ?_
          obtain ⟨k27, hf⟩ := hf
          obtain ⟨b28, e29, hf⟩ := hf
          refine g1598 h dX10_readSection_82 k27 e29 ?_
          refine r_iconst (v := 2) h dX10_readSection_85 (by decide) ?_
          refine r_dup2 h dX10_readSection_86 rfl rfl ?_
          obtain ⟨j30, hf⟩ := hf
          refine r_iaload h dX10_readSection_87 j30 ?_
          refine r_iconst (v := 1) h dX10_readSection_88 (by decide) ?_
          refine r_iadd h dX10_readSection_89 ?_
          obtain ⟨j31, hf⟩ := hf
          refine r_iastore h dX10_readSection_90 j31 ?_
          refine r_goW (fun M32 eM32 => ?_)
          have hf := hf M32 eM32
          refine r_iconst (v := 1) h dX10_readSection_91 (by decide) ?_
          exact r_zreturn h hq dX10_readSection_92 (by decide) ⟨_, rfl, hf⟩
        · have hf := ite_t c21 hf
          refine r_iconst (v := 0) h dX10_readSection_72 (by decide) ?_
          exact r_zreturn h hq dX10_readSection_73 (by decide) ⟨_, rfl, hf⟩)
  refine r_aload_n h 0 dX10_readSection_0 rfl rfl ?_
  obtain ⟨k1, hf⟩ := hf
  obtain ⟨b2, e3, hf⟩ := hf
  refine g1598 h dX10_readSection_1 k1 e3 ?_
  refine r_iconst (v := 2) h dX10_readSection_4 (by decide) ?_
  obtain ⟨j4, hf⟩ := hf
  refine r_iaload h dX10_readSection_5 j4 ?_
  refine r_istore_n (lv' := [(1, .int (iv M b2 (ix 2))), (0, .ref a0)]) h dX10_readSection_6 rfl (by decide) rfl ?_
  refine r_iload_n h 0 dX10_readSection_7 rfl rfl ?_
  refine r_bipush (v := 8) h dX10_readSection_8 (by decide) ?_
  refine r_icmp_ne (tgt := 15) h dX10_readSection_10 (by decide) (fun c5 => ?_) (fun c5 => ?_)
  · have hf := ite_f c5 hf
    refine r_bipush (v := 15) h dX10_readSection_15 (by decide) ?_
    refine r_bipush (v := 7) h dX10_readSection_17 (by decide) ?_
    refine r_iload_n h 0 dX10_readSection_19 rfl rfl ?_
    refine r_imul h dX10_readSection_20 ?_
    refine r_iadd h dX10_readSection_21 ?_
    refine r_istore_n (lv' := [(2, .int ((15 : Int32) + ((7 : Int32) * (iv M b2 (ix 2))))), (1, .int (iv M b2 (ix 2))), (0, .ref a0)]) h dX10_readSection_22 rfl (by decide) rfl ?_
    refine r_iload_n h 1 dX10_readSection_23 rfl rfl ?_
    refine r_if_ne (tgt := 36) h dX10_readSection_24 (by decide) (fun c6 => ?_) (fun c6 => ?_)
    · have hf := ite_f c6 hf
      refine r_aload_n h 2 dX10_readSection_36 rfl rfl ?_
      refine r_aload_n h 2 dX10_readSection_37 rfl rfl ?_
      obtain ⟨b7, e8, hf⟩ := hf
      refine g1598 h dX10_readSection_38 k1 e8 ?_
      refine r_iload_n h 0 dX10_readSection_41 rfl rfl ?_
      refine r_bipush (v := 7) h dX10_readSection_42 (by decide) ?_
      refine r_isub h dX10_readSection_44 ?_
      obtain ⟨j9, hf⟩ := hf
      refine r_iaload h dX10_readSection_45 j9 ?_
      refine r_iconst (v := 1) h dX10_readSection_46 (by decide) ?_
      refine r_iadd h dX10_readSection_47 ?_
      refine r_aload_n h 2 dX10_readSection_48 rfl rfl ?_
      refine c1812 hl h dX10_readSection_49 k1 hf (Nat.le_of_ble_eq_true rfl) (by decide) (by decide) (fun x11 M10 hf => ?_)
      refine r_iconst (v := 1) h dX10_readSection_52 (by decide) ?_
      refine r_isub h dX10_readSection_53 ?_
      obtain ⟨k12, hf⟩ := hf
      refine c1794 hl h dX10_readSection_54 k12 hf (Nat.le_of_ble_eq_true rfl) (by decide) (by decide) (fun x14 M13 hf => ?_)
      exact V.sub [2, 0] rfl hf
    · have hf := ite_t c6 hf
      refine r_aload_n h 2 dX10_readSection_27 rfl rfl ?_
      refine r_iconst (v := 0) h dX10_readSection_28 (by decide) ?_
      refine r_iconst (v := 0) h dX10_readSection_29 (by decide) ?_
      refine c1794 hl h dX10_readSection_30 k1 hf (Nat.le_of_ble_eq_true rfl) (by decide) (by decide) (fun x16 M15 hf => ?_)
      refine r_goto (tgt := 57) h dX10_readSection_33 (by decide) ?_
      exact V.sub [2, 0] rfl hf
  · have hf := ite_t c5 hf
    refine r_iconst (v := 0) h dX10_readSection_13 (by decide) ?_
    exact r_zreturn h hq dX10_readSection_14 (by decide) ⟨_, rfl, hf⟩
theorem c1808 {l : Launch} {G : gG} {X : gX} {cc : ByteArray} {nL F L bc bs pc : Nat} {M : gM} {lv : List (Nat × Value)} {rest : List Value} {a0 : Nat} {K : Int32 → gM → Prop} (hl : l.stackTraces = false) (h : hX l G X cc nL "GlacierMailModel" F L) (d : decode cc pc = .ok (.invokevirtual 192, 3)) (hk : kd M a0 = some (.inl 10)) (hf : f_X10_readSection a0 M K) (hst : (rest.map fun v => v.category).sum ≤ 8) (hF : 6 ≤ F) (hL : 134 ≤ L) (kk : ∀ x M1, K x M1 → V l G X bc bs M1 (pc + 3) lv (.int x :: rest)) : V l G X bc bs M pc lv (.ref a0 :: rest) := r_callV (n := 0) (As := []) h (m_X10_readSection hl hf) 10 rfl hk rfl ⟨by decide, by decide, by decide +kernel⟩ d q1808 q1810 qs67 q147 q1811 rfl rfl hst hF hL (Nat.zero_le _) (Nat.zero_le _) (kI_go kk) kN_go
def f_X10_rowTold (a0 : Nat) (M : gM) (K : Int32 → gM → Prop) : Prop :=
  kd M a0 = some (.inl 10) ∧ f_X10_lip a0 M (fun x3 M2 => kd M2 a0 = some (.inl 10) ∧ f_X10_number a0 0 (x3 - 1) M2 (fun x6 M5 => K x6 M5))
set_option maxHeartbeats 4000000 in
theorem m_X10_rowTold {l : Launch} (hl : l.stackTraces = false) {G : gG} {a0 : Nat} {M : gM} {K : Int32 → gM → Prop} (hf : f_X10_rowTold a0 M K) : gMet l G yX10_rowTold (ws_ yX10_rowTold cX10_rowTold 1 (some Jvm.ClassFile.FieldType.int)) ({ frames := 4, cells := 0, slots := 0, locals := 88 }) M [.ref a0] (kI K) kN := by
  refine gm_of hl (ret := (some Jvm.ClassFile.FieldType.int)) rfl (Nat.le_of_ble_eq_true rfl) (fun X h hq => ?_)
  have h : hX l G X cX10_rowTold 1 "GlacierMailModel" 4 88 := h
  have hf := hf
  show V l G X 0 0 M 0 [(0, .ref a0)] []
  unfold f_X10_rowTold at hf
  refine r_aload_n h 0 dX10_rowTold_0 rfl rfl ?_
  refine r_iconst (v := 0) h dX10_rowTold_1 (by decide) ?_
  refine r_aload_n h 0 dX10_rowTold_2 rfl rfl ?_
  obtain ⟨k1, hf⟩ := hf
  refine c1812 hl h dX10_rowTold_3 k1 hf (Nat.le_of_ble_eq_true rfl) (by decide) (by decide) (fun x3 M2 hf => ?_)
  refine r_iconst (v := 1) h dX10_rowTold_6 (by decide) ?_
  refine r_isub h dX10_rowTold_7 ?_
  obtain ⟨k4, hf⟩ := hf
  refine c1794 hl h dX10_rowTold_8 k4 hf (Nat.le_of_ble_eq_true rfl) (by decide) (by decide) (fun x6 M5 hf => ?_)
  exact r_ireturn h hq dX10_rowTold_11 ⟨_, rfl, hf⟩
theorem c1829 {l : Launch} {G : gG} {X : gX} {cc : ByteArray} {nL F L bc bs pc : Nat} {M : gM} {lv : List (Nat × Value)} {rest : List Value} {a0 : Nat} {K : Int32 → gM → Prop} (hl : l.stackTraces = false) (h : hX l G X cc nL "GlacierMailModel" F L) (d : decode cc pc = .ok (.invokevirtual 153, 3)) (hk : kd M a0 = some (.inl 10)) (hf : f_X10_rowTold a0 M K) (hst : (rest.map fun v => v.category).sum ≤ 8) (hF : 5 ≤ F) (hL : 108 ≤ L) (kk : ∀ x M1, K x M1 → V l G X bc bs M1 (pc + 3) lv (.int x :: rest)) : V l G X bc bs M pc lv (.ref a0 :: rest) := r_callV (n := 0) (As := []) h (m_X10_rowTold hl hf) 10 rfl hk rfl ⟨by decide, by decide, by decide +kernel⟩ d q1829 q1831 qs72 q147 q1832 rfl rfl hst hF hL (Nat.zero_le _) (Nat.zero_le _) (kI_go kk) kN_go
def f_X10_after (a0 : Nat) (a1 : Nat) (a2 : Int32) (a3 : Int32) (M : gM) (K : Int32 → gM → Prop) : Prop :=
  kd M a0 = some (.inl 10) ∧ f_X10_letterRow a0 M (fun M2 => kd M2 a0 = some (.inl 10) ∧ f_X10_isWord a0 a1 M2 (fun x5 M4 => if x5 = 0 then K (-1) M4 else kd M4 a0 = some (.inl 10) ∧ f_X10_number a0 a2 a3 M4 (fun x9 M8 => K x9 M8)))
set_option maxHeartbeats 4000000 in
theorem m_X10_after {l : Launch} (hl : l.stackTraces = false) {G : gG} {a0 : Nat} {a1 : Nat} {a2 : Int32} {a3 : Int32} {M : gM} {K : Int32 → gM → Prop} (hf : f_X10_after a0 a1 a2 a3 M K) : gMet l G yX10_after (ws_ yX10_after cX10_after 4 (some Jvm.ClassFile.FieldType.int)) ({ frames := 5, cells := 0, slots := 0, locals := 108 }) M [.ref a0, .ref a1, .int a2, .int a3] (kI K) kN := by
  refine gm_of hl (ret := (some Jvm.ClassFile.FieldType.int)) rfl (Nat.le_of_ble_eq_true rfl) (fun X h hq => ?_)
  have h : hX l G X cX10_after 4 "GlacierMailModel" 5 108 := h
  have hf := hf
  show V l G X 0 0 M 0 [(0, .ref a0), (1, .ref a1), (2, .int a2), (3, .int a3)] []
  unfold f_X10_after at hf
  refine r_aload_n h 0 dX10_after_0 rfl rfl ?_
  obtain ⟨k1, hf⟩ := hf
  refine c1763 hl h dX10_after_1 k1 hf (Nat.le_of_ble_eq_true rfl) (by decide) (by decide) (fun M2 hf => ?_)
  refine r_aload_n h 0 dX10_after_4 rfl rfl ?_
  refine r_aload_n h 1 dX10_after_5 rfl rfl ?_
  obtain ⟨k3, hf⟩ := hf
  refine c1772 hl h dX10_after_6 k3 hf (Nat.le_of_ble_eq_true rfl) (by decide) (by decide) (fun x5 M4 hf => ?_)
  refine r_if_eq (tgt := 21) h dX10_after_9 (by decide) (fun c6 => ?_) (fun c6 => ?_)
  · have hf := ite_t c6 hf
    refine r_iconst (v := (-1)) h dX10_after_21 (by decide) ?_
    exact r_ireturn h hq dX10_after_22 ⟨_, rfl, hf⟩
  · have hf := ite_f c6 hf
    refine r_aload_n h 0 dX10_after_12 rfl rfl ?_
    refine r_iload_n h 2 dX10_after_13 rfl rfl ?_
    refine r_iload_n h 3 dX10_after_14 rfl rfl ?_
    obtain ⟨k7, hf⟩ := hf
    refine c1794 hl h dX10_after_15 k7 hf (Nat.le_of_ble_eq_true rfl) (by decide) (by decide) (fun x9 M8 hf => ?_)
    refine r_goto (tgt := 22) h dX10_after_18 (by decide) ?_
    exact r_ireturn h hq dX10_after_22 ⟨_, rfl, hf⟩
theorem c1834 {l : Launch} {G : gG} {X : gX} {cc : ByteArray} {nL F L bc bs pc : Nat} {M : gM} {lv : List (Nat × Value)} {rest : List Value} {a0 : Nat} {a1 : Nat} {a2 : Int32} {a3 : Int32} {K : Int32 → gM → Prop} (hl : l.stackTraces = false) (h : hX l G X cc nL "GlacierMailModel" F L) (d : decode cc pc = .ok (.invokevirtual 158, 3)) (hk : kd M a0 = some (.inl 10)) (hf : f_X10_after a0 a1 a2 a3 M K) (hst : (rest.map fun v => v.category).sum ≤ 8) (hF : 6 ≤ F) (hL : 131 ≤ L) (kk : ∀ x M1, K x M1 → V l G X bc bs M1 (pc + 3) lv (.int x :: rest)) : V l G X bc bs M pc lv (.int a3 :: .int a2 :: .ref a1 :: .ref a0 :: rest) := r_callV (n := 3) (As := [.ref a1, .int a2, .int a3]) h (m_X10_after hl hf) 10 rfl hk rfl ⟨by decide, by decide, by decide +kernel⟩ d q1834 q1836 qs73 q147 q1837 rfl rfl hst hF hL (Nat.zero_le _) (Nat.zero_le _) (kI_go kk) kN_go
def f_X10_readSnow (a0 : Nat) (M : gM) (K : Int32 → gM → Prop) : Prop :=
  ∀ P22 : Nat → Int32 → Int32 → gM → Prop,
  (∀ (v0 : Nat) (v1 : Int32) (s0 : Int32) (M : gM), (if 0 ≤ s0 then kd M v0 = some (.inl 10) ∧ ∃ b11, rv M v0 1 = some b11 ∧ inA M b11 0 10 ∧ ∀ M14, M14 = sI M b11 (ix 10) v1 → kd M14 v0 = some (.inl 10) ∧ ∃ b16, rv M14 v0 1 = some b16 ∧ inA M14 b16 0 11 ∧ ∀ M19, M19 = sI M14 b16 (ix 11) s0 → K 1 M19 else K 0 M) → P22 v0 v1 s0 M) →
  kd M a0 = some (.inl 10) ∧ f_X10_rowTold a0 M (fun x3 M2 => if 0 ≤ x3 then ∀ w5, kd M2 w5 = some (.inr (10, 14)) → kd M2 a0 = some (.inl 10) ∧ f_X10_after a0 w5 0 9 M2 (fun x8 M7 => P22 a0 x3 x8 M7) else P22 a0 x3 (-1) M2)
set_option maxHeartbeats 4000000 in
theorem m_X10_readSnow {l : Launch} (hl : l.stackTraces = false) {G : gG} {a0 : Nat} {M : gM} {K : Int32 → gM → Prop} (hf : f_X10_readSnow a0 M K) : gMet l G yX10_readSnow (ws_ yX10_readSnow cX10_readSnow 3 (some Jvm.ClassFile.FieldType.boolean)) ({ frames := 6, cells := 0, slots := 0, locals := 131 }) M [.ref a0] (kI K) kN := by
  refine gm_of hl (ret := (some Jvm.ClassFile.FieldType.boolean)) rfl (Nat.le_of_ble_eq_true rfl) (fun X h hq => ?_)
  have h : hX l G X cX10_readSnow 3 "GlacierMailModel" 6 131 := h
  have hf := hf
  show V l G X 0 0 M 0 [(0, .ref a0)] []
  have hf := hf
    (fun v0 v1 s0 M => V l G X 0 0 M 22 [(0, .ref v0), (1, .int v1)] [.int s0])
    (by
      intro v0 v1 s0 M hf
      show V l G X 0 0 M 22 [(0, .ref v0), (1, .int v1)] [.int s0]
      refine r_istore_n (lv' := [(2, .int s0), (0, .ref v0), (1, .int v1)]) h dX10_readSnow_22 rfl (by decide) rfl ?_
      refine r_iload_n h 0 dX10_readSnow_23 rfl rfl ?_
      refine r_if_ge (tgt := 29) h dX10_readSnow_24 (by decide) (fun c9 => ?_) (fun c9 => ?_)
      · have hf := ite_t c9 hf
        refine r_aload_n h 1 dX10_readSnow_29 rfl rfl ?_
        obtain ⟨k10, hf⟩ := hf
        obtain ⟨b11, e12, hf⟩ := hf
        refine g1598 h dX10_readSnow_30 k10 e12 ?_
        refine r_bipush (v := 10) h dX10_readSnow_33 (by decide) ?_
        refine r_iload_n h 2 dX10_readSnow_35 rfl rfl ?_
        obtain ⟨j13, hf⟩ := hf
        refine r_iastore h dX10_readSnow_36 j13 ?_
        refine r_goW (fun M14 eM14 => ?_)
        have hf := hf M14 eM14
        refine r_aload_n h 1 dX10_readSnow_37 rfl rfl ?_
        obtain ⟨k15, hf⟩ := hf
        obtain ⟨b16, e17, hf⟩ := hf
        refine g1598 h dX10_readSnow_38 k15 e17 ?_
        refine r_bipush (v := 11) h dX10_readSnow_41 (by decide) ?_
        refine r_iload_n h 0 dX10_readSnow_43 rfl rfl ?_
        obtain ⟨j18, hf⟩ := hf
        refine r_iastore h dX10_readSnow_44 j18 ?_
        refine r_goW (fun M19 eM19 => ?_)
        have hf := hf M19 eM19
        refine r_iconst (v := 1) h dX10_readSnow_45 (by decide) ?_
        exact r_zreturn h hq dX10_readSnow_46 (by decide) ⟨_, rfl, hf⟩
      · have hf := ite_f c9 hf
        refine r_iconst (v := 0) h dX10_readSnow_27 (by decide) ?_
        exact r_zreturn h hq dX10_readSnow_28 (by decide) ⟨_, rfl, hf⟩)
  refine r_aload_n h 0 dX10_readSnow_0 rfl rfl ?_
  obtain ⟨k1, hf⟩ := hf
  refine c1829 hl h dX10_readSnow_1 k1 hf (Nat.le_of_ble_eq_true rfl) (by decide) (by decide) (fun x3 M2 hf => ?_)
  refine r_istore_n (lv' := [(1, .int x3), (0, .ref a0)]) h dX10_readSnow_4 rfl (by decide) rfl ?_
  refine r_iload_n h 0 dX10_readSnow_5 rfl rfl ?_
  refine r_if_ge (tgt := 13) h dX10_readSnow_6 (by decide) (fun c4 => ?_) (fun c4 => ?_)
  · have hf := ite_t c4 hf
    refine r_aload_n h 1 dX10_readSnow_13 rfl rfl ?_
    refine r_ldcS h (i := 14) (by decide) (List.mem_of_getElem? (i := 32) rfl) dX10_readSnow_14 (fun w5 kw5 => ?_)
    have hf := hf w5 kw5
    refine r_iconst (v := 0) h dX10_readSnow_16 (by decide) ?_
    refine r_bipush (v := 9) h dX10_readSnow_17 (by decide) ?_
    obtain ⟨k6, hf⟩ := hf
    refine c1834 hl h dX10_readSnow_19 k6 hf (Nat.le_of_ble_eq_true rfl) (by decide) (by decide) (fun x8 M7 hf => ?_)
    exact V.sub [1, 0] rfl hf
  · have hf := ite_f c4 hf
    refine r_iconst (v := (-1)) h dX10_readSnow_9 (by decide) ?_
    refine r_goto (tgt := 22) h dX10_readSnow_10 (by decide) ?_
    exact V.sub [1, 0] rfl hf
theorem c1825 {l : Launch} {G : gG} {X : gX} {cc : ByteArray} {nL F L bc bs pc : Nat} {M : gM} {lv : List (Nat × Value)} {rest : List Value} {a0 : Nat} {K : Int32 → gM → Prop} (hl : l.stackTraces = false) (h : hX l G X cc nL "GlacierMailModel" F L) (d : decode cc pc = .ok (.invokevirtual 197, 3)) (hk : kd M a0 = some (.inl 10)) (hf : f_X10_readSnow a0 M K) (hst : (rest.map fun v => v.category).sum ≤ 8) (hF : 7 ≤ F) (hL : 153 ≤ L) (kk : ∀ x M1, K x M1 → V l G X bc bs M1 (pc + 3) lv (.int x :: rest)) : V l G X bc bs M pc lv (.ref a0 :: rest) := r_callV (n := 0) (As := []) h (m_X10_readSnow hl hf) 10 rfl hk rfl ⟨by decide, by decide, by decide +kernel⟩ d q1825 q1827 qs71 q147 q1828 rfl rfl hst hF hL (Nat.zero_le _) (Nat.zero_le _) (kI_go kk) kN_go
def f_X10_now (a0 : Nat) (M : gM) (K : Int32 → gM → Prop) : Prop :=
  kd M a0 = some (.inl 10) ∧ ∃ b2, rv M a0 1 = some b2 ∧ inA M b2 0 9 ∧ K (iv M b2 (ix 9)) M
set_option maxHeartbeats 4000000 in
theorem m_X10_now {l : Launch} (hl : l.stackTraces = false) {G : gG} {a0 : Nat} {M : gM} {K : Int32 → gM → Prop} (hf : f_X10_now a0 M K) : gMet l G yX10_now (ws_ yX10_now cX10_now 1 (some Jvm.ClassFile.FieldType.int)) ({ frames := 0, cells := 0, slots := 0, locals := 0 }) M [.ref a0] (kI K) kN := by
  refine gm_of hl (ret := (some Jvm.ClassFile.FieldType.int)) rfl (Nat.le_of_ble_eq_true rfl) (fun X h hq => ?_)
  have h : hX l G X cX10_now 1 "GlacierMailModel" 0 0 := h
  have hf := hf
  show V l G X 0 0 M 0 [(0, .ref a0)] []
  unfold f_X10_now at hf
  refine r_aload_n h 0 dX10_now_0 rfl rfl ?_
  obtain ⟨k1, hf⟩ := hf
  obtain ⟨b2, e3, hf⟩ := hf
  refine g1598 h dX10_now_1 k1 e3 ?_
  refine r_bipush (v := 9) h dX10_now_4 (by decide) ?_
  obtain ⟨j4, hf⟩ := hf
  refine r_iaload h dX10_now_6 j4 ?_
  exact r_ireturn h hq dX10_now_7 ⟨_, rfl, hf⟩
theorem c1843 {l : Launch} {G : gG} {X : gX} {cc : ByteArray} {nL F L bc bs pc : Nat} {M : gM} {lv : List (Nat × Value)} {rest : List Value} {a0 : Nat} {K : Int32 → gM → Prop} (hl : l.stackTraces = false) (h : hX l G X cc nL "GlacierMailModel" F L) (d : decode cc pc = .ok (.invokevirtual 162, 3)) (hk : kd M a0 = some (.inl 10)) (hf : f_X10_now a0 M K) (hst : (rest.map fun v => v.category).sum ≤ 8) (hF : 1 ≤ F) (hL : 20 ≤ L) (kk : ∀ x M1, K x M1 → V l G X bc bs M1 (pc + 3) lv (.int x :: rest)) : V l G X bc bs M pc lv (.ref a0 :: rest) := r_callV (n := 0) (As := []) h (m_X10_now hl hf) 10 rfl hk rfl ⟨by decide, by decide, by decide +kernel⟩ d q1843 q1845 qs75 q147 q1846 rfl rfl hst hF hL (Nat.zero_le _) (Nat.zero_le _) (kI_go kk) kN_go
def f_X10_readFlood (a0 : Nat) (M : gM) (K : Int32 → gM → Prop) : Prop :=
  ∀ P49 : Nat → Int32 → Int32 → Int32 → gM → Prop,
  ∀ P65 : Nat → Int32 → Int32 → Int32 → Int32 → gM → Prop,
  (∀ (v0 : Nat) (v1 : Int32) (v2 : Int32) (s0 : Int32) (M : gM), (if 0 ≤ s0 then kd M v0 = some (.inl 10) ∧ f_X10_number v0 1 20 M (fun x21 M20 => P65 v0 v1 v2 s0 x21 M20) else P65 v0 v1 v2 s0 (-1) M) → P49 v0 v1 v2 s0 M) →
  (∀ (v0 : Nat) (v1 : Int32) (v2 : Int32) (v3 : Int32) (s0 : Int32) (M : gM), (if 0 ≤ s0 then kd M v0 = some (.inl 10) ∧ ∃ b24, rv M v0 1 = some b24 ∧ inA M b24 0 v1 ∧ ∀ M27, M27 = sI M b24 (ix v1) v2 → kd M27 v0 = some (.inl 10) ∧ ∃ b29, rv M27 v0 1 = some b29 ∧ inA M27 b29 0 (v1 + 1) ∧ ∀ M32, M32 = sI M27 b29 (ix (v1 + 1)) v3 → kd M32 v0 = some (.inl 10) ∧ ∃ b34, rv M32 v0 1 = some b34 ∧ inA M32 b34 0 (v1 + 2) ∧ ∀ M37, M37 = sI M32 b34 (ix (v1 + 2)) s0 → kd M37 v0 = some (.inl 10) ∧ ∃ b39, rv M37 v0 1 = some b39 ∧ inA M37 b39 0 5 ∧ inA M37 b39 0 5 ∧ ∀ M43, M43 = sI M37 b39 (ix 5) ((iv M37 b39 (ix 5)) + 1) → K 1 M43 else K 0 M) → P65 v0 v1 v2 v3 s0 M) →
  kd M a0 = some (.inl 10) ∧ ∃ b2, rv M a0 1 = some b2 ∧ inA M b2 0 5 ∧ ∃ b5, rv M a0 1 = some b5 ∧ inA M b5 0 5 ∧ if (iv M b5 (ix 5)) = 8 then K 0 M else f_X10_now a0 M (fun x10 M9 => kd M9 a0 = some (.inl 10) ∧ f_X10_number a0 x10 299 M9 (fun x13 M12 => if 0 ≤ x13 then kd M12 a0 = some (.inl 10) ∧ f_X10_rowTold a0 M12 (fun x17 M16 => P49 a0 ((71 : Int32) + ((3 : Int32) * (iv M b2 (ix 5)))) x13 x17 M16) else P49 a0 ((71 : Int32) + ((3 : Int32) * (iv M b2 (ix 5)))) x13 (-1) M12))
set_option maxHeartbeats 4000000 in
theorem m_X10_readFlood {l : Launch} (hl : l.stackTraces = false) {G : gG} {a0 : Nat} {M : gM} {K : Int32 → gM → Prop} (hf : f_X10_readFlood a0 M K) : gMet l G yX10_readFlood (ws_ yX10_readFlood cX10_readFlood 5 (some Jvm.ClassFile.FieldType.boolean)) ({ frames := 5, cells := 0, slots := 0, locals := 108 }) M [.ref a0] (kI K) kN := by
  refine gm_of hl (ret := (some Jvm.ClassFile.FieldType.boolean)) rfl (Nat.le_of_ble_eq_true rfl) (fun X h hq => ?_)
  have h : hX l G X cX10_readFlood 5 "GlacierMailModel" 5 108 := h
  have hf := hf
  show V l G X 0 0 M 0 [(0, .ref a0)] []
  have hf := hf
    (fun v0 v1 v2 s0 M => V l G X 0 0 M 49 [(0, .ref v0), (1, .int v1), (2, .int v2)] [.int s0])
    (fun v0 v1 v2 v3 s0 M => V l G X 0 0 M 65 [(0, .ref v0), (1, .int v1), (2, .int v2), (3, .int v3)] [.int s0])
    (by
      intro v0 v1 v2 s0 M hf
      show V l G X 0 0 M 49 [(0, .ref v0), (1, .int v1), (2, .int v2)] [.int s0]
      refine r_istore_n (lv' := [(3, .int s0), (0, .ref v0), (1, .int v1), (2, .int v2)]) h dX10_readFlood_49 rfl (by decide) rfl ?_
      refine r_iload_n h 0 dX10_readFlood_50 rfl rfl ?_
      refine r_if_ge (tgt := 58) h dX10_readFlood_51 (by decide) (fun c18 => ?_) (fun c18 => ?_)
      · have hf := ite_t c18 hf
        refine r_aload_n h 1 dX10_readFlood_58 rfl rfl ?_
        refine r_iconst (v := 1) h dX10_readFlood_59 (by decide) ?_
        refine r_bipush (v := 20) h dX10_readFlood_60 (by decide) ?_
        obtain ⟨k19, hf⟩ := hf
        refine c1794 hl h dX10_readFlood_62 k19 hf (Nat.le_of_ble_eq_true rfl) (by decide) (by decide) (fun x21 M20 hf => ?_)
        exact V.sub [1, 2, 3, 0] rfl hf
      · have hf := ite_f c18 hf
        refine r_iconst (v := (-1)) h dX10_readFlood_54 (by decide) ?_
        refine r_goto (tgt := 65) h dX10_readFlood_55 (by decide) ?_
        exact V.sub [1, 2, 3, 0] rfl hf)
    (by
      intro v0 v1 v2 v3 s0 M hf
      show V l G X 0 0 M 65 [(0, .ref v0), (1, .int v1), (2, .int v2), (3, .int v3)] [.int s0]
      refine r_istore (lv' := [(4, .int s0), (0, .ref v0), (1, .int v1), (2, .int v2), (3, .int v3)]) h dX10_readFlood_65 (by decide) rfl ?_
      refine r_iload h 0 dX10_readFlood_67 rfl ?_
      refine r_if_ge (tgt := 74) h dX10_readFlood_69 (by decide) (fun c22 => ?_) (fun c22 => ?_)
      · have hf := ite_t c22 hf
        refine r_aload_n h 1 dX10_readFlood_74 rfl rfl ?_
        obtain ⟨k23, hf⟩ := hf
        obtain ⟨b24, e25, hf⟩ := hf
        refine g1598 h dX10_readFlood_75 k23 e25 ?_
        refine r_iload_n h 2 dX10_readFlood_78 rfl rfl ?_
        refine r_iload_n h 3 dX10_readFlood_79 rfl rfl ?_
        obtain ⟨j26, hf⟩ := hf
        refine r_iastore h dX10_readFlood_80 j26 ?_
        refine r_goW (fun M27 eM27 => ?_)
        have hf := hf M27 eM27
        refine r_aload_n h 1 dX10_readFlood_81 rfl rfl ?_
        obtain ⟨k28, hf⟩ := hf
        obtain ⟨b29, e30, hf⟩ := hf
        refine g1598 h dX10_readFlood_82 k28 e30 ?_
        refine r_iload_n h 2 dX10_readFlood_85 rfl rfl ?_
        refine r_iconst (v := 1) h dX10_readFlood_86 (by decide) ?_
        refine r_iadd h dX10_readFlood_87 ?_
        refine r_iload_n h 4 dX10_readFlood_88 rfl rfl ?_
        obtain ⟨j31, hf⟩ := hf
        refine r_iastore h dX10_readFlood_89 j31 ?_
        refine r_goW (fun M32 eM32 => ?_)
        have hf := hf M32 eM32
        refine r_aload_n h 1 dX10_readFlood_90 rfl rfl ?_
        obtain ⟨k33, hf⟩ := hf
        obtain ⟨b34, e35, hf⟩ := hf
        refine g1598 h dX10_readFlood_91 k33 e35 ?_
        refine r_iload_n h 2 dX10_readFlood_94 rfl rfl ?_
        refine r_iconst (v := 2) h dX10_readFlood_95 (by decide) ?_
        refine r_iadd h dX10_readFlood_96 ?_
        refine r_iload h 0 dX10_readFlood_97 rfl ?_
        obtain ⟨j36, hf⟩ := hf
        refine r_iastore h dX10_readFlood_99 j36 ?_
        refine r_goW (fun M37 eM37 => ?_)
        have hf := hf M37 eM37
        refine r_aload_n h 1 dX10_readFlood_100 rfl rfl ?_
        obtain ⟨k38, hf⟩ := hf
        obtain ⟨b39, e40, hf⟩ := hf
        refine g1598 h dX10_readFlood_101 k38 e40 ?_
        refine r_iconst (v := 5) h dX10_readFlood_104 (by decide) ?_
        refine r_dup2 h dX10_readFlood_105 rfl rfl ?_
        obtain ⟨j41, hf⟩ := hf
        refine r_iaload h dX10_readFlood_106 j41 ?_
        refine r_iconst (v := 1) h dX10_readFlood_107 (by decide) ?_
        refine r_iadd h dX10_readFlood_108 ?_
        obtain ⟨j42, hf⟩ := hf
        refine r_iastore h dX10_readFlood_109 j42 ?_
        refine r_goW (fun M43 eM43 => ?_)
        have hf := hf M43 eM43
        refine r_iconst (v := 1) h dX10_readFlood_110 (by decide) ?_
        exact r_zreturn h hq dX10_readFlood_111 (by decide) ⟨_, rfl, hf⟩
      · have hf := ite_f c22 hf
        refine r_iconst (v := 0) h dX10_readFlood_72 (by decide) ?_
        exact r_zreturn h hq dX10_readFlood_73 (by decide) ⟨_, rfl, hf⟩)
  refine r_bipush (v := 71) h dX10_readFlood_0 (by decide) ?_
  refine r_iconst (v := 3) h dX10_readFlood_2 (by decide) ?_
  refine r_aload_n h 0 dX10_readFlood_3 rfl rfl ?_
  obtain ⟨k1, hf⟩ := hf
  obtain ⟨b2, e3, hf⟩ := hf
  refine g1598 h dX10_readFlood_4 k1 e3 ?_
  refine r_iconst (v := 5) h dX10_readFlood_7 (by decide) ?_
  obtain ⟨j4, hf⟩ := hf
  refine r_iaload h dX10_readFlood_8 j4 ?_
  refine r_imul h dX10_readFlood_9 ?_
  refine r_iadd h dX10_readFlood_10 ?_
  refine r_istore_n (lv' := [(1, .int ((71 : Int32) + ((3 : Int32) * (iv M b2 (ix 5))))), (0, .ref a0)]) h dX10_readFlood_11 rfl (by decide) rfl ?_
  refine r_aload_n h 1 dX10_readFlood_12 rfl rfl ?_
  obtain ⟨b5, e6, hf⟩ := hf
  refine g1598 h dX10_readFlood_13 k1 e6 ?_
  refine r_iconst (v := 5) h dX10_readFlood_16 (by decide) ?_
  obtain ⟨j7, hf⟩ := hf
  refine r_iaload h dX10_readFlood_17 j7 ?_
  refine r_bipush (v := 8) h dX10_readFlood_18 (by decide) ?_
  refine r_icmp_ne (tgt := 25) h dX10_readFlood_20 (by decide) (fun c8 => ?_) (fun c8 => ?_)
  · have hf := ite_f c8 hf
    refine r_aload_n h 1 dX10_readFlood_25 rfl rfl ?_
    refine r_aload_n h 1 dX10_readFlood_26 rfl rfl ?_
    refine c1843 hl h dX10_readFlood_27 k1 hf (Nat.le_of_ble_eq_true rfl) (by decide) (by decide) (fun x10 M9 hf => ?_)
    refine r_sipush (v := 299) h dX10_readFlood_30 (by decide) ?_
    obtain ⟨k11, hf⟩ := hf
    refine c1794 hl h dX10_readFlood_33 k11 hf (Nat.le_of_ble_eq_true rfl) (by decide) (by decide) (fun x13 M12 hf => ?_)
    refine r_istore_n (lv' := [(2, .int x13), (1, .int ((71 : Int32) + ((3 : Int32) * (iv M b2 (ix 5))))), (0, .ref a0)]) h dX10_readFlood_36 rfl (by decide) rfl ?_
    refine r_iload_n h 0 dX10_readFlood_37 rfl rfl ?_
    refine r_if_ge (tgt := 45) h dX10_readFlood_38 (by decide) (fun c14 => ?_) (fun c14 => ?_)
    · have hf := ite_t c14 hf
      refine r_aload_n h 2 dX10_readFlood_45 rfl rfl ?_
      obtain ⟨k15, hf⟩ := hf
      refine c1829 hl h dX10_readFlood_46 k15 hf (Nat.le_of_ble_eq_true rfl) (by decide) (by decide) (fun x17 M16 hf => ?_)
      exact V.sub [2, 1, 0] rfl hf
    · have hf := ite_f c14 hf
      refine r_iconst (v := (-1)) h dX10_readFlood_41 (by decide) ?_
      refine r_goto (tgt := 49) h dX10_readFlood_42 (by decide) ?_
      exact V.sub [2, 1, 0] rfl hf
  · have hf := ite_t c8 hf
    refine r_iconst (v := 0) h dX10_readFlood_23 (by decide) ?_
    exact r_zreturn h hq dX10_readFlood_24 (by decide) ⟨_, rfl, hf⟩
theorem c1839 {l : Launch} {G : gG} {X : gX} {cc : ByteArray} {nL F L bc bs pc : Nat} {M : gM} {lv : List (Nat × Value)} {rest : List Value} {a0 : Nat} {K : Int32 → gM → Prop} (hl : l.stackTraces = false) (h : hX l G X cc nL "GlacierMailModel" F L) (d : decode cc pc = .ok (.invokevirtual 202, 3)) (hk : kd M a0 = some (.inl 10)) (hf : f_X10_readFlood a0 M K) (hst : (rest.map fun v => v.category).sum ≤ 8) (hF : 6 ≤ F) (hL : 132 ≤ L) (kk : ∀ x M1, K x M1 → V l G X bc bs M1 (pc + 3) lv (.int x :: rest)) : V l G X bc bs M pc lv (.ref a0 :: rest) := r_callV (n := 0) (As := []) h (m_X10_readFlood hl hf) 10 rfl hk rfl ⟨by decide, by decide, by decide +kernel⟩ d q1839 q1841 qs74 q147 q1842 rfl rfl hst hF hL (Nat.zero_le _) (Nat.zero_le _) (kI_go kk) kN_go
def f_X10_laneTold (a0 : Nat) (M : gM) (K : Int32 → gM → Prop) : Prop :=
  kd M a0 = some (.inl 10) ∧ f_X10_lanes a0 M (fun x3 M2 => kd M2 a0 = some (.inl 10) ∧ f_X10_number a0 0 (x3 - 1) M2 (fun x6 M5 => K x6 M5))
set_option maxHeartbeats 4000000 in
theorem m_X10_laneTold {l : Launch} (hl : l.stackTraces = false) {G : gG} {a0 : Nat} {M : gM} {K : Int32 → gM → Prop} (hf : f_X10_laneTold a0 M K) : gMet l G yX10_laneTold (ws_ yX10_laneTold cX10_laneTold 1 (some Jvm.ClassFile.FieldType.int)) ({ frames := 4, cells := 0, slots := 0, locals := 88 }) M [.ref a0] (kI K) kN := by
  refine gm_of hl (ret := (some Jvm.ClassFile.FieldType.int)) rfl (Nat.le_of_ble_eq_true rfl) (fun X h hq => ?_)
  have h : hX l G X cX10_laneTold 1 "GlacierMailModel" 4 88 := h
  have hf := hf
  show V l G X 0 0 M 0 [(0, .ref a0)] []
  unfold f_X10_laneTold at hf
  refine r_aload_n h 0 dX10_laneTold_0 rfl rfl ?_
  refine r_iconst (v := 0) h dX10_laneTold_1 (by decide) ?_
  refine r_aload_n h 0 dX10_laneTold_2 rfl rfl ?_
  obtain ⟨k1, hf⟩ := hf
  refine c1820 hl h dX10_laneTold_3 k1 hf (Nat.le_of_ble_eq_true rfl) (by decide) (by decide) (fun x3 M2 hf => ?_)
  refine r_iconst (v := 1) h dX10_laneTold_6 (by decide) ?_
  refine r_isub h dX10_laneTold_7 ?_
  obtain ⟨k4, hf⟩ := hf
  refine c1794 hl h dX10_laneTold_8 k4 hf (Nat.le_of_ble_eq_true rfl) (by decide) (by decide) (fun x6 M5 hf => ?_)
  exact r_ireturn h hq dX10_laneTold_11 ⟨_, rfl, hf⟩
theorem c1852 {l : Launch} {G : gG} {X : gX} {cc : ByteArray} {nL F L bc bs pc : Nat} {M : gM} {lv : List (Nat × Value)} {rest : List Value} {a0 : Nat} {K : Int32 → gM → Prop} (hl : l.stackTraces = false) (h : hX l G X cc nL "GlacierMailModel" F L) (d : decode cc pc = .ok (.invokevirtual 165, 3)) (hk : kd M a0 = some (.inl 10)) (hf : f_X10_laneTold a0 M K) (hst : (rest.map fun v => v.category).sum ≤ 8) (hF : 5 ≤ F) (hL : 108 ≤ L) (kk : ∀ x M1, K x M1 → V l G X bc bs M1 (pc + 3) lv (.int x :: rest)) : V l G X bc bs M pc lv (.ref a0 :: rest) := r_callV (n := 0) (As := []) h (m_X10_laneTold hl hf) 10 rfl hk rfl ⟨by decide, by decide, by decide +kernel⟩ d q1852 q1854 qs77 q147 q1855 rfl rfl hst hF hL (Nat.zero_le _) (Nat.zero_le _) (kI_go kk) kN_go
def f_X10_isNext (a0 : Nat) (a1 : Nat) (M : gM) (K : Int32 → gM → Prop) : Prop :=
  kd M a0 = some (.inl 10) ∧ f_X10_letterRow a0 M (fun M2 => kd M2 a0 = some (.inl 10) ∧ f_X10_isWord a0 a1 M2 (fun x5 M4 => if x5 = 0 then kd M4 a0 = some (.inl 10) ∧ ∀ M8, M8 = sI M4 a0 9 (iv M4 a0 11) → K 0 M8 else K 1 M4))
set_option maxHeartbeats 4000000 in
theorem m_X10_isNext {l : Launch} (hl : l.stackTraces = false) {G : gG} {a0 : Nat} {a1 : Nat} {M : gM} {K : Int32 → gM → Prop} (hf : f_X10_isNext a0 a1 M K) : gMet l G yX10_isNext (ws_ yX10_isNext cX10_isNext 2 (some Jvm.ClassFile.FieldType.boolean)) ({ frames := 5, cells := 0, slots := 0, locals := 108 }) M [.ref a0, .ref a1] (kI K) kN := by
  refine gm_of hl (ret := (some Jvm.ClassFile.FieldType.boolean)) rfl (Nat.le_of_ble_eq_true rfl) (fun X h hq => ?_)
  have h : hX l G X cX10_isNext 2 "GlacierMailModel" 5 108 := h
  have hf := hf
  show V l G X 0 0 M 0 [(0, .ref a0), (1, .ref a1)] []
  unfold f_X10_isNext at hf
  refine r_aload_n h 0 dX10_isNext_0 rfl rfl ?_
  obtain ⟨k1, hf⟩ := hf
  refine c1763 hl h dX10_isNext_1 k1 hf (Nat.le_of_ble_eq_true rfl) (by decide) (by decide) (fun M2 hf => ?_)
  refine r_aload_n h 0 dX10_isNext_4 rfl rfl ?_
  refine r_aload_n h 1 dX10_isNext_5 rfl rfl ?_
  obtain ⟨k3, hf⟩ := hf
  refine c1772 hl h dX10_isNext_6 k3 hf (Nat.le_of_ble_eq_true rfl) (by decide) (by decide) (fun x5 M4 hf => ?_)
  refine r_if_eq (tgt := 14) h dX10_isNext_9 (by decide) (fun c6 => ?_) (fun c6 => ?_)
  · have hf := ite_t c6 hf
    refine r_aload_n h 0 dX10_isNext_14 rfl rfl ?_
    refine r_aload_n h 0 dX10_isNext_15 rfl rfl ?_
    obtain ⟨k7, hf⟩ := hf
    refine g1608 h dX10_isNext_16 k7 ?_
    refine p1606 h dX10_isNext_19 k7 ?_
    refine r_goW (fun M8 eM8 => ?_)
    have hf := hf M8 eM8
    refine r_iconst (v := 0) h dX10_isNext_22 (by decide) ?_
    exact r_zreturn h hq dX10_isNext_23 (by decide) ⟨_, rfl, hf⟩
  · have hf := ite_f c6 hf
    refine r_iconst (v := 1) h dX10_isNext_12 (by decide) ?_
    exact r_zreturn h hq dX10_isNext_13 (by decide) ⟨_, rfl, hf⟩
theorem c1857 {l : Launch} {G : gG} {X : gX} {cc : ByteArray} {nL F L bc bs pc : Nat} {M : gM} {lv : List (Nat × Value)} {rest : List Value} {a0 : Nat} {a1 : Nat} {K : Int32 → gM → Prop} (hl : l.stackTraces = false) (h : hX l G X cc nL "GlacierMailModel" F L) (d : decode cc pc = .ok (.invokevirtual 170, 3)) (hk : kd M a0 = some (.inl 10)) (hf : f_X10_isNext a0 a1 M K) (hst : (rest.map fun v => v.category).sum ≤ 8) (hF : 6 ≤ F) (hL : 129 ≤ L) (kk : ∀ x M1, K x M1 → V l G X bc bs M1 (pc + 3) lv (.int x :: rest)) : V l G X bc bs M pc lv (.ref a1 :: .ref a0 :: rest) := r_callV (n := 1) (As := [.ref a1]) h (m_X10_isNext hl hf) 10 rfl hk rfl ⟨by decide, by decide, by decide +kernel⟩ d q1857 q1859 qs78 q147 q1860 rfl rfl hst hF hL (Nat.zero_le _) (Nat.zero_le _) (kI_go kk) kN_go
def f_X10_readPerson (a0 : Nat) (M : gM) (K : Int32 → gM → Prop) : Prop :=
  ∀ P38 : Nat → Int32 → Int32 → Int32 → gM → Prop,
  ∀ P70 : Nat → Int32 → Int32 → Int32 → Int32 → gM → Prop,
  (∀ (v0 : Nat) (v1 : Int32) (v2 : Int32) (s0 : Int32) (M : gM), (if 0 ≤ s0 then ∀ w16, kd M w16 = some (.inr (10, 18)) → kd M v0 = some (.inl 10) ∧ f_X10_isNext v0 w16 M (fun x19 M18 => if x19 = 0 then P70 v0 v1 v2 s0 (-1) M18 else kd M18 v0 = some (.inl 10) ∧ f_X10_laneTold v0 M18 (fun x23 M22 => if 0 ≤ x23 then P70 v0 v1 v2 s0 x23 M22 else K 0 M22)) else K 0 M) → P38 v0 v1 v2 s0 M) →
  (∀ (v0 : Nat) (v1 : Int32) (v2 : Int32) (v3 : Int32) (v4 : Int32) (M : gM), (kd M v0 = some (.inl 10) ∧ ∃ b26, rv M v0 1 = some b26 ∧ inA M b26 0 v1 ∧ ∀ M29, M29 = sI M b26 (ix v1) v2 → kd M29 v0 = some (.inl 10) ∧ ∃ b31, rv M29 v0 1 = some b31 ∧ inA M29 b31 0 (v1 + 1) ∧ ∀ M34, M34 = sI M29 b31 (ix (v1 + 1)) v3 → kd M34 v0 = some (.inl 10) ∧ ∃ b36, rv M34 v0 1 = some b36 ∧ inA M34 b36 0 (v1 + 2) ∧ ∀ M39, M39 = sI M34 b36 (ix (v1 + 2)) v4 → kd M39 v0 = some (.inl 10) ∧ ∃ b41, rv M39 v0 1 = some b41 ∧ inA M39 b41 0 3 ∧ inA M39 b41 0 3 ∧ ∀ M45, M45 = sI M39 b41 (ix 3) ((iv M39 b41 (ix 3)) + 1) → K 1 M45) → P70 v0 v1 v2 v3 v4 M) →
  kd M a0 = some (.inl 10) ∧ f_X10_people a0 M (fun x3 M2 => kd M2 a0 = some (.inl 10) ∧ f_X10_people a0 M2 (fun x6 M5 => if x6 = 8 then K 0 M5 else kd M5 a0 = some (.inl 10) ∧ f_X10_laneTold a0 M5 (fun x10 M9 => if 0 ≤ x10 then kd M9 a0 = some (.inl 10) ∧ f_X10_rowTold a0 M9 (fun x14 M13 => P38 a0 ((95 : Int32) + ((3 : Int32) * x3)) x10 x14 M13) else P38 a0 ((95 : Int32) + ((3 : Int32) * x3)) x10 (-1) M9)))
set_option maxHeartbeats 4000000 in
theorem m_X10_readPerson {l : Launch} (hl : l.stackTraces = false) {G : gG} {a0 : Nat} {M : gM} {K : Int32 → gM → Prop} (hf : f_X10_readPerson a0 M K) : gMet l G yX10_readPerson (ws_ yX10_readPerson cX10_readPerson 5 (some Jvm.ClassFile.FieldType.boolean)) ({ frames := 6, cells := 0, slots := 0, locals := 129 }) M [.ref a0] (kI K) kN := by
  refine gm_of hl (ret := (some Jvm.ClassFile.FieldType.boolean)) rfl (Nat.le_of_ble_eq_true rfl) (fun X h hq => ?_)
  have h : hX l G X cX10_readPerson 5 "GlacierMailModel" 6 129 := h
  have hf := hf
  show V l G X 0 0 M 0 [(0, .ref a0)] []
  have hf := hf
    (fun v0 v1 v2 s0 M => V l G X 0 0 M 38 [(0, .ref v0), (1, .int v1), (2, .int v2)] [.int s0])
    (fun v0 v1 v2 v3 v4 M => V l G X 0 0 M 70 [(0, .ref v0), (1, .int v1), (2, .int v2), (3, .int v3), (4, .int v4)] [])
    (by
      intro v0 v1 v2 s0 M hf
      show V l G X 0 0 M 38 [(0, .ref v0), (1, .int v1), (2, .int v2)] [.int s0]
      refine r_istore_n (lv' := [(3, .int s0), (0, .ref v0), (1, .int v1), (2, .int v2)]) h dX10_readPerson_38 rfl (by decide) rfl ?_
      refine r_iload_n h 0 dX10_readPerson_39 rfl rfl ?_
      refine r_if_ge (tgt := 45) h dX10_readPerson_40 (by decide) (fun c15 => ?_) (fun c15 => ?_)
      · have hf := ite_t c15 hf
        refine r_iconst (v := (-1)) h dX10_readPerson_45 (by decide) ?_
        refine r_istore (lv' := [(4, .int (-1)), (3, .int s0), (0, .ref v0), (1, .int v1), (2, .int v2)]) h dX10_readPerson_46 (by decide) rfl ?_
        refine r_aload_n h 2 dX10_readPerson_48 rfl rfl ?_
        refine r_ldcS h (i := 18) (by decide) (List.mem_of_getElem? (i := 35) rfl) dX10_readPerson_49 (fun w16 kw16 => ?_)
        have hf := hf w16 kw16
        obtain ⟨k17, hf⟩ := hf
        refine c1857 hl h dX10_readPerson_51 k17 hf (Nat.le_of_ble_eq_true rfl) (by decide) (by decide) (fun x19 M18 hf => ?_)
        refine r_if_eq (tgt := 70) h dX10_readPerson_54 (by decide) (fun c20 => ?_) (fun c20 => ?_)
        · have hf := ite_t c20 hf
          exact V.sub [2, 3, 4, 1, 0] rfl hf
        · have hf := ite_f c20 hf
          refine r_aload_n h 2 dX10_readPerson_57 rfl rfl ?_
          obtain ⟨k21, hf⟩ := hf
          refine c1852 hl h dX10_readPerson_58 k21 hf (Nat.le_of_ble_eq_true rfl) (by decide) (by decide) (fun x23 M22 hf => ?_)
          refine r_istore (lv' := [(4, .int x23), (3, .int s0), (0, .ref v0), (1, .int v1), (2, .int v2)]) h dX10_readPerson_61 (by decide) rfl ?_
          refine r_iload h 0 dX10_readPerson_63 rfl ?_
          refine r_if_ge (tgt := 70) h dX10_readPerson_65 (by decide) (fun c24 => ?_) (fun c24 => ?_)
          · have hf := ite_t c24 hf
            exact V.sub [2, 3, 4, 1, 0] rfl hf
          · have hf := ite_f c24 hf
            refine r_iconst (v := 0) h dX10_readPerson_68 (by decide) ?_
            exact r_zreturn h hq dX10_readPerson_69 (by decide) ⟨_, rfl, hf⟩
      · have hf := ite_f c15 hf
        refine r_iconst (v := 0) h dX10_readPerson_43 (by decide) ?_
        exact r_zreturn h hq dX10_readPerson_44 (by decide) ⟨_, rfl, hf⟩)
    (by
      intro v0 v1 v2 v3 v4 M hf
      show V l G X 0 0 M 70 [(0, .ref v0), (1, .int v1), (2, .int v2), (3, .int v3), (4, .int v4)] []
      refine r_aload_n h 0 dX10_readPerson_70 rfl rfl ?_
      obtain ⟨k25, hf⟩ := hf
      obtain ⟨b26, e27, hf⟩ := hf
      refine g1598 h dX10_readPerson_71 k25 e27 ?_
      refine r_iload_n h 1 dX10_readPerson_74 rfl rfl ?_
      refine r_iload_n h 2 dX10_readPerson_75 rfl rfl ?_
      obtain ⟨j28, hf⟩ := hf
      refine r_iastore h dX10_readPerson_76 j28 ?_
      refine r_goW (fun M29 eM29 => ?_)
      have hf := hf M29 eM29
      refine r_aload_n h 0 dX10_readPerson_77 rfl rfl ?_
      obtain ⟨k30, hf⟩ := hf
      obtain ⟨b31, e32, hf⟩ := hf
      refine g1598 h dX10_readPerson_78 k30 e32 ?_
      refine r_iload_n h 1 dX10_readPerson_81 rfl rfl ?_
      refine r_iconst (v := 1) h dX10_readPerson_82 (by decide) ?_
      refine r_iadd h dX10_readPerson_83 ?_
      refine r_iload_n h 3 dX10_readPerson_84 rfl rfl ?_
      obtain ⟨j33, hf⟩ := hf
      refine r_iastore h dX10_readPerson_85 j33 ?_
      refine r_goW (fun M34 eM34 => ?_)
      have hf := hf M34 eM34
      refine r_aload_n h 0 dX10_readPerson_86 rfl rfl ?_
      obtain ⟨k35, hf⟩ := hf
      obtain ⟨b36, e37, hf⟩ := hf
      refine g1598 h dX10_readPerson_87 k35 e37 ?_
      refine r_iload_n h 1 dX10_readPerson_90 rfl rfl ?_
      refine r_iconst (v := 2) h dX10_readPerson_91 (by decide) ?_
      refine r_iadd h dX10_readPerson_92 ?_
      refine r_iload h 4 dX10_readPerson_93 rfl ?_
      obtain ⟨j38, hf⟩ := hf
      refine r_iastore h dX10_readPerson_95 j38 ?_
      refine r_goW (fun M39 eM39 => ?_)
      have hf := hf M39 eM39
      refine r_aload_n h 0 dX10_readPerson_96 rfl rfl ?_
      obtain ⟨k40, hf⟩ := hf
      obtain ⟨b41, e42, hf⟩ := hf
      refine g1598 h dX10_readPerson_97 k40 e42 ?_
      refine r_iconst (v := 3) h dX10_readPerson_100 (by decide) ?_
      refine r_dup2 h dX10_readPerson_101 rfl rfl ?_
      obtain ⟨j43, hf⟩ := hf
      refine r_iaload h dX10_readPerson_102 j43 ?_
      refine r_iconst (v := 1) h dX10_readPerson_103 (by decide) ?_
      refine r_iadd h dX10_readPerson_104 ?_
      obtain ⟨j44, hf⟩ := hf
      refine r_iastore h dX10_readPerson_105 j44 ?_
      refine r_goW (fun M45 eM45 => ?_)
      have hf := hf M45 eM45
      refine r_iconst (v := 1) h dX10_readPerson_106 (by decide) ?_
      exact r_zreturn h hq dX10_readPerson_107 (by decide) ⟨_, rfl, hf⟩)
  refine r_bipush (v := 95) h dX10_readPerson_0 (by decide) ?_
  refine r_iconst (v := 3) h dX10_readPerson_2 (by decide) ?_
  refine r_aload_n h 0 dX10_readPerson_3 rfl rfl ?_
  obtain ⟨k1, hf⟩ := hf
  refine c1786 hl h dX10_readPerson_4 k1 hf (Nat.le_of_ble_eq_true rfl) (by decide) (by decide) (fun x3 M2 hf => ?_)
  refine r_imul h dX10_readPerson_7 ?_
  refine r_iadd h dX10_readPerson_8 ?_
  refine r_istore_n (lv' := [(1, .int ((95 : Int32) + ((3 : Int32) * x3))), (0, .ref a0)]) h dX10_readPerson_9 rfl (by decide) rfl ?_
  refine r_aload_n h 1 dX10_readPerson_10 rfl rfl ?_
  obtain ⟨k4, hf⟩ := hf
  refine c1786 hl h dX10_readPerson_11 k4 hf (Nat.le_of_ble_eq_true rfl) (by decide) (by decide) (fun x6 M5 hf => ?_)
  refine r_bipush (v := 8) h dX10_readPerson_14 (by decide) ?_
  refine r_icmp_ne (tgt := 21) h dX10_readPerson_16 (by decide) (fun c7 => ?_) (fun c7 => ?_)
  · have hf := ite_f c7 hf
    refine r_aload_n h 1 dX10_readPerson_21 rfl rfl ?_
    obtain ⟨k8, hf⟩ := hf
    refine c1852 hl h dX10_readPerson_22 k8 hf (Nat.le_of_ble_eq_true rfl) (by decide) (by decide) (fun x10 M9 hf => ?_)
    refine r_istore_n (lv' := [(2, .int x10), (1, .int ((95 : Int32) + ((3 : Int32) * x3))), (0, .ref a0)]) h dX10_readPerson_25 rfl (by decide) rfl ?_
    refine r_iload_n h 0 dX10_readPerson_26 rfl rfl ?_
    refine r_if_ge (tgt := 34) h dX10_readPerson_27 (by decide) (fun c11 => ?_) (fun c11 => ?_)
    · have hf := ite_t c11 hf
      refine r_aload_n h 2 dX10_readPerson_34 rfl rfl ?_
      obtain ⟨k12, hf⟩ := hf
      refine c1829 hl h dX10_readPerson_35 k12 hf (Nat.le_of_ble_eq_true rfl) (by decide) (by decide) (fun x14 M13 hf => ?_)
      exact V.sub [2, 1, 0] rfl hf
    · have hf := ite_f c11 hf
      refine r_iconst (v := (-1)) h dX10_readPerson_30 (by decide) ?_
      refine r_goto (tgt := 38) h dX10_readPerson_31 (by decide) ?_
      exact V.sub [2, 1, 0] rfl hf
  · have hf := ite_t c7 hf
    refine r_iconst (v := 0) h dX10_readPerson_19 (by decide) ?_
    exact r_zreturn h hq dX10_readPerson_20 (by decide) ⟨_, rfl, hf⟩
theorem c1848 {l : Launch} {G : gG} {X : gX} {cc : ByteArray} {nL F L bc bs pc : Nat} {M : gM} {lv : List (Nat × Value)} {rest : List Value} {a0 : Nat} {K : Int32 → gM → Prop} (hl : l.stackTraces = false) (h : hX l G X cc nL "GlacierMailModel" F L) (d : decode cc pc = .ok (.invokevirtual 207, 3)) (hk : kd M a0 = some (.inl 10)) (hf : f_X10_readPerson a0 M K) (hst : (rest.map fun v => v.category).sum ≤ 8) (hF : 7 ≤ F) (hL : 153 ≤ L) (kk : ∀ x M1, K x M1 → V l G X bc bs M1 (pc + 3) lv (.int x :: rest)) : V l G X bc bs M pc lv (.ref a0 :: rest) := r_callV (n := 0) (As := []) h (m_X10_readPerson hl hf) 10 rfl hk rfl ⟨by decide, by decide, by decide +kernel⟩ d q1848 q1850 qs76 q147 q1851 rfl rfl hst hF hL (Nat.zero_le _) (Nat.zero_le _) (kI_go kk) kN_go
def f_X10_setsLetter (a0 : Nat) (a1 : Int32) (a2 : Int32) (a3 : Int32) (M : gM) (K : gM → Prop) : Prop :=
  kd M a0 = some (.inl 10) ∧ ∃ b2, rv M a0 1 = some b2 ∧ inA M b2 0 (((119 : Int32) + ((7 : Int32) * a1)) + a2) ∧ ∀ M5, M5 = sI M b2 (ix (((119 : Int32) + ((7 : Int32) * a1)) + a2)) a3 → K M5
set_option maxHeartbeats 4000000 in
theorem m_X10_setsLetter {l : Launch} (hl : l.stackTraces = false) {G : gG} {a0 : Nat} {a1 : Int32} {a2 : Int32} {a3 : Int32} {M : gM} {K : gM → Prop} (hf : f_X10_setsLetter a0 a1 a2 a3 M K) : gMet l G yX10_setsLetter (ws_ yX10_setsLetter cX10_setsLetter 4 none) ({ frames := 0, cells := 0, slots := 0, locals := 0 }) M [.ref a0, .int a1, .int a2, .int a3] (kV K) kN := by
  refine gm_of hl (ret := none) rfl (Nat.le_of_ble_eq_true rfl) (fun X h hq => ?_)
  have h : hX l G X cX10_setsLetter 4 "GlacierMailModel" 0 0 := h
  have hf := hf
  show V l G X 0 0 M 0 [(0, .ref a0), (1, .int a1), (2, .int a2), (3, .int a3)] []
  unfold f_X10_setsLetter at hf
  refine r_aload_n h 0 dX10_setsLetter_0 rfl rfl ?_
  obtain ⟨k1, hf⟩ := hf
  obtain ⟨b2, e3, hf⟩ := hf
  refine g1598 h dX10_setsLetter_1 k1 e3 ?_
  refine r_bipush (v := 119) h dX10_setsLetter_4 (by decide) ?_
  refine r_bipush (v := 7) h dX10_setsLetter_6 (by decide) ?_
  refine r_iload_n h 1 dX10_setsLetter_8 rfl rfl ?_
  refine r_imul h dX10_setsLetter_9 ?_
  refine r_iadd h dX10_setsLetter_10 ?_
  refine r_iload_n h 2 dX10_setsLetter_11 rfl rfl ?_
  refine r_iadd h dX10_setsLetter_12 ?_
  refine r_iload_n h 3 dX10_setsLetter_13 rfl rfl ?_
  obtain ⟨j4, hf⟩ := hf
  refine r_iastore h dX10_setsLetter_14 j4 ?_
  refine r_goW (fun M5 eM5 => ?_)
  have hf := hf M5 eM5
  exact r_return h hq dX10_setsLetter_15 ⟨rfl, hf⟩
theorem c1870 {l : Launch} {G : gG} {X : gX} {cc : ByteArray} {nL F L bc bs pc : Nat} {M : gM} {lv : List (Nat × Value)} {rest : List Value} {a0 : Nat} {a1 : Int32} {a2 : Int32} {a3 : Int32} {K : gM → Prop} (hl : l.stackTraces = false) (h : hX l G X cc nL "GlacierMailModel" F L) (d : decode cc pc = .ok (.invokevirtual 173, 3)) (hk : kd M a0 = some (.inl 10)) (hf : f_X10_setsLetter a0 a1 a2 a3 M K) (hst : (rest.map fun v => v.category).sum ≤ 8) (hF : 1 ≤ F) (hL : 23 ≤ L) (kk : ∀ M1, K M1 → V l G X bc bs M1 (pc + 3) lv rest) : V l G X bc bs M pc lv (.int a3 :: .int a2 :: .int a1 :: .ref a0 :: rest) := r_callV (n := 3) (As := [.int a1, .int a2, .int a3]) h (m_X10_setsLetter hl hf) 10 rfl hk rfl ⟨by decide, by decide, by decide +kernel⟩ d q1870 q1872 qs81 q147 q1873 rfl rfl hst hF hL (Nat.zero_le _) (Nat.zero_le _) (kV_go kk) kN_go
def f_X10_throwsIn (a0 : Nat) (a1 : Int32) (a2 : Int32) (a3 : Int32) (a4 : Int32) (M : gM) (K : gM → Prop) : Prop :=
  kd M a0 = some (.inl 10) ∧ f_X10_letters a0 M (fun x3 M2 => kd M2 a0 = some (.inl 10) ∧ f_X10_setsLetter a0 x3 0 a1 M2 (fun M5 => kd M5 a0 = some (.inl 10) ∧ f_X10_setsLetter a0 x3 1 a2 M5 (fun M7 => kd M7 a0 = some (.inl 10) ∧ f_X10_setsLetter a0 x3 2 a3 M7 (fun M9 => kd M9 a0 = some (.inl 10) ∧ f_X10_now a0 M9 (fun x12 M11 => kd M11 a0 = some (.inl 10) ∧ f_X10_setsLetter a0 x3 3 x12 M11 (fun M14 => kd M14 a0 = some (.inl 10) ∧ f_X10_setsLetter a0 x3 4 a4 M14 (fun M16 => kd M16 a0 = some (.inl 10) ∧ f_X10_setsLetter a0 x3 5 (-1) M16 (fun M18 => kd M18 a0 = some (.inl 10) ∧ f_X10_setsLetter a0 x3 6 (-1) M18 (fun M20 => kd M20 a0 = some (.inl 10) ∧ ∃ b22, rv M20 a0 1 = some b22 ∧ inA M20 b22 0 4 ∧ inA M20 b22 0 4 ∧ ∀ M26, M26 = sI M20 b22 (ix 4) ((iv M20 b22 (ix 4)) + 1) → K M26)))))))))
set_option maxHeartbeats 4000000 in
theorem m_X10_throwsIn {l : Launch} (hl : l.stackTraces = false) {G : gG} {a0 : Nat} {a1 : Int32} {a2 : Int32} {a3 : Int32} {a4 : Int32} {M : gM} {K : gM → Prop} (hf : f_X10_throwsIn a0 a1 a2 a3 a4 M K) : gMet l G yX10_throwsIn (ws_ yX10_throwsIn cX10_throwsIn 6 none) ({ frames := 1, cells := 0, slots := 0, locals := 23 }) M [.ref a0, .int a1, .int a2, .int a3, .int a4] (kV K) kN := by
  refine gm_of hl (ret := none) rfl (Nat.le_of_ble_eq_true rfl) (fun X h hq => ?_)
  have h : hX l G X cX10_throwsIn 6 "GlacierMailModel" 1 23 := h
  have hf := hf
  show V l G X 0 0 M 0 [(0, .ref a0), (1, .int a1), (2, .int a2), (3, .int a3), (4, .int a4)] []
  unfold f_X10_throwsIn at hf
  refine r_aload_n h 0 dX10_throwsIn_0 rfl rfl ?_
  obtain ⟨k1, hf⟩ := hf
  refine c1790 hl h dX10_throwsIn_1 k1 hf (Nat.le_of_ble_eq_true rfl) (by decide) (by decide) (fun x3 M2 hf => ?_)
  refine r_istore (lv' := [(5, .int x3), (0, .ref a0), (1, .int a1), (2, .int a2), (3, .int a3), (4, .int a4)]) h dX10_throwsIn_4 (by decide) rfl ?_
  refine r_aload_n h 1 dX10_throwsIn_6 rfl rfl ?_
  refine r_iload h 0 dX10_throwsIn_7 rfl ?_
  refine r_iconst (v := 0) h dX10_throwsIn_9 (by decide) ?_
  refine r_iload_n h 2 dX10_throwsIn_10 rfl rfl ?_
  obtain ⟨k4, hf⟩ := hf
  refine c1870 hl h dX10_throwsIn_11 k4 hf (Nat.le_of_ble_eq_true rfl) (by decide) (by decide) (fun M5 hf => ?_)
  refine r_aload_n h 1 dX10_throwsIn_14 rfl rfl ?_
  refine r_iload h 0 dX10_throwsIn_15 rfl ?_
  refine r_iconst (v := 1) h dX10_throwsIn_17 (by decide) ?_
  refine r_iload_n h 3 dX10_throwsIn_18 rfl rfl ?_
  obtain ⟨k6, hf⟩ := hf
  refine c1870 hl h dX10_throwsIn_19 k6 hf (Nat.le_of_ble_eq_true rfl) (by decide) (by decide) (fun M7 hf => ?_)
  refine r_aload_n h 1 dX10_throwsIn_22 rfl rfl ?_
  refine r_iload h 0 dX10_throwsIn_23 rfl ?_
  refine r_iconst (v := 2) h dX10_throwsIn_25 (by decide) ?_
  refine r_iload_n h 4 dX10_throwsIn_26 rfl rfl ?_
  obtain ⟨k8, hf⟩ := hf
  refine c1870 hl h dX10_throwsIn_27 k8 hf (Nat.le_of_ble_eq_true rfl) (by decide) (by decide) (fun M9 hf => ?_)
  refine r_aload_n h 1 dX10_throwsIn_30 rfl rfl ?_
  refine r_iload h 0 dX10_throwsIn_31 rfl ?_
  refine r_iconst (v := 3) h dX10_throwsIn_33 (by decide) ?_
  refine r_aload_n h 1 dX10_throwsIn_34 rfl rfl ?_
  obtain ⟨k10, hf⟩ := hf
  refine c1843 hl h dX10_throwsIn_35 k10 hf (Nat.le_of_ble_eq_true rfl) (by decide) (by decide) (fun x12 M11 hf => ?_)
  obtain ⟨k13, hf⟩ := hf
  refine c1870 hl h dX10_throwsIn_38 k13 hf (Nat.le_of_ble_eq_true rfl) (by decide) (by decide) (fun M14 hf => ?_)
  refine r_aload_n h 1 dX10_throwsIn_41 rfl rfl ?_
  refine r_iload h 0 dX10_throwsIn_42 rfl ?_
  refine r_iconst (v := 4) h dX10_throwsIn_44 (by decide) ?_
  refine r_iload h 5 dX10_throwsIn_45 rfl ?_
  obtain ⟨k15, hf⟩ := hf
  refine c1870 hl h dX10_throwsIn_47 k15 hf (Nat.le_of_ble_eq_true rfl) (by decide) (by decide) (fun M16 hf => ?_)
  refine r_aload_n h 1 dX10_throwsIn_50 rfl rfl ?_
  refine r_iload h 0 dX10_throwsIn_51 rfl ?_
  refine r_iconst (v := 5) h dX10_throwsIn_53 (by decide) ?_
  refine r_iconst (v := (-1)) h dX10_throwsIn_54 (by decide) ?_
  obtain ⟨k17, hf⟩ := hf
  refine c1870 hl h dX10_throwsIn_55 k17 hf (Nat.le_of_ble_eq_true rfl) (by decide) (by decide) (fun M18 hf => ?_)
  refine r_aload_n h 1 dX10_throwsIn_58 rfl rfl ?_
  refine r_iload h 0 dX10_throwsIn_59 rfl ?_
  refine r_bipush (v := 6) h dX10_throwsIn_61 (by decide) ?_
  refine r_iconst (v := (-1)) h dX10_throwsIn_63 (by decide) ?_
  obtain ⟨k19, hf⟩ := hf
  refine c1870 hl h dX10_throwsIn_64 k19 hf (Nat.le_of_ble_eq_true rfl) (by decide) (by decide) (fun M20 hf => ?_)
  refine r_aload_n h 1 dX10_throwsIn_67 rfl rfl ?_
  obtain ⟨k21, hf⟩ := hf
  obtain ⟨b22, e23, hf⟩ := hf
  refine g1598 h dX10_throwsIn_68 k21 e23 ?_
  refine r_iconst (v := 4) h dX10_throwsIn_71 (by decide) ?_
  refine r_dup2 h dX10_throwsIn_72 rfl rfl ?_
  obtain ⟨j24, hf⟩ := hf
  refine r_iaload h dX10_throwsIn_73 j24 ?_
  refine r_iconst (v := 1) h dX10_throwsIn_74 (by decide) ?_
  refine r_iadd h dX10_throwsIn_75 ?_
  obtain ⟨j25, hf⟩ := hf
  refine r_iastore h dX10_throwsIn_76 j25 ?_
  refine r_goW (fun M26 eM26 => ?_)
  have hf := hf M26 eM26
  exact r_return h hq dX10_throwsIn_77 ⟨rfl, hf⟩
theorem c1866 {l : Launch} {G : gG} {X : gX} {cc : ByteArray} {nL F L bc bs pc : Nat} {M : gM} {lv : List (Nat × Value)} {rest : List Value} {a0 : Nat} {a1 : Int32} {a2 : Int32} {a3 : Int32} {a4 : Int32} {K : gM → Prop} (hl : l.stackTraces = false) (h : hX l G X cc nL "GlacierMailModel" F L) (d : decode cc pc = .ok (.invokevirtual 177, 3)) (hk : kd M a0 = some (.inl 10)) (hf : f_X10_throwsIn a0 a1 a2 a3 a4 M K) (hst : (rest.map fun v => v.category).sum ≤ 8) (hF : 2 ≤ F) (hL : 48 ≤ L) (kk : ∀ M1, K M1 → V l G X bc bs M1 (pc + 3) lv rest) : V l G X bc bs M pc lv (.int a4 :: .int a3 :: .int a2 :: .int a1 :: .ref a0 :: rest) := r_callV (n := 4) (As := [.int a1, .int a2, .int a3, .int a4]) h (m_X10_throwsIn hl hf) 10 rfl hk rfl ⟨by decide, by decide, by decide +kernel⟩ d q1866 q1868 qs80 q147 q1869 rfl rfl hst hF hL (Nat.zero_le _) (Nat.zero_le _) (kV_go kk) kN_go
def f_X10_readRock (a0 : Nat) (M : gM) (K : Int32 → gM → Prop) : Prop :=
  ∀ P28 : Nat → Int32 → Int32 → gM → Prop,
  ∀ P41 : Int32 → gM → Prop,
  (∀ (v0 : Nat) (v1 : Int32) (s0 : Int32) (M : gM), (if s0 < 0 then P41 s0 M else kd M v0 = some (.inl 10) ∧ f_X10_throwsIn v0 (-1) (-1) v1 s0 M (fun M14 => P41 s0 M14)) → P28 v0 v1 s0 M) →
  (∀ (v2 : Int32) (M : gM), (if v2 < 0 then K 0 M else K 1 M) → P41 v2 M) →
  kd M a0 = some (.inl 10) ∧ f_X10_letters a0 M (fun x3 M2 => if x3 = 24 then K 0 M2 else kd M2 a0 = some (.inl 10) ∧ f_X10_laneTold a0 M2 (fun x7 M6 => if 0 ≤ x7 then kd M6 a0 = some (.inl 10) ∧ f_X10_rowTold a0 M6 (fun x11 M10 => P28 a0 x7 x11 M10) else P28 a0 x7 (-1) M6))
set_option maxHeartbeats 4000000 in
theorem m_X10_readRock {l : Launch} (hl : l.stackTraces = false) {G : gG} {a0 : Nat} {M : gM} {K : Int32 → gM → Prop} (hf : f_X10_readRock a0 M K) : gMet l G yX10_readRock (ws_ yX10_readRock cX10_readRock 3 (some Jvm.ClassFile.FieldType.boolean)) ({ frames := 5, cells := 0, slots := 0, locals := 108 }) M [.ref a0] (kI K) kN := by
  refine gm_of hl (ret := (some Jvm.ClassFile.FieldType.boolean)) rfl (Nat.le_of_ble_eq_true rfl) (fun X h hq => ?_)
  have h : hX l G X cX10_readRock 3 "GlacierMailModel" 5 108 := h
  have hf := hf
  show V l G X 0 0 M 0 [(0, .ref a0)] []
  have hf := hf
    (fun v0 v1 s0 M => V l G X 0 0 M 28 [(0, .ref v0), (1, .int v1)] [.int s0])
    (fun v2 M => V l G X 0 0 M 41 [(2, .int v2)] [])
    (by
      intro v0 v1 s0 M hf
      show V l G X 0 0 M 28 [(0, .ref v0), (1, .int v1)] [.int s0]
      refine r_istore_n (lv' := [(2, .int s0), (0, .ref v0), (1, .int v1)]) h dX10_readRock_28 rfl (by decide) rfl ?_
      refine r_iload_n h 0 dX10_readRock_29 rfl rfl ?_
      refine r_if_lt (tgt := 41) h dX10_readRock_30 (by decide) (fun c12 => ?_) (fun c12 => ?_)
      · have hf := ite_t c12 hf
        exact V.sub [0] rfl hf
      · have hf := ite_f c12 hf
        refine r_aload_n h 1 dX10_readRock_33 rfl rfl ?_
        refine r_iconst (v := (-1)) h dX10_readRock_34 (by decide) ?_
        refine r_iconst (v := (-1)) h dX10_readRock_35 (by decide) ?_
        refine r_iload_n h 2 dX10_readRock_36 rfl rfl ?_
        refine r_iload_n h 0 dX10_readRock_37 rfl rfl ?_
        obtain ⟨k13, hf⟩ := hf
        refine c1866 hl h dX10_readRock_38 k13 hf (Nat.le_of_ble_eq_true rfl) (by decide) (by decide) (fun M14 hf => ?_)
        exact V.sub [0] rfl hf)
    (by
      intro v2 M hf
      show V l G X 0 0 M 41 [(2, .int v2)] []
      refine r_iload_n h 0 dX10_readRock_41 rfl rfl ?_
      refine r_if_lt (tgt := 49) h dX10_readRock_42 (by decide) (fun c15 => ?_) (fun c15 => ?_)
      · have hf := ite_t c15 hf
        refine r_iconst (v := 0) h dX10_readRock_49 (by decide) ?_
        exact r_zreturn h hq dX10_readRock_50 (by decide) ⟨_, rfl, hf⟩
      · have hf := ite_f c15 hf
        refine r_iconst (v := 1) h dX10_readRock_45 (by decide) ?_
        refine r_goto (tgt := 50) h dX10_readRock_46 (by decide) ?_
        exact r_zreturn h hq dX10_readRock_50 (by decide) ⟨_, rfl, hf⟩)
  refine r_aload_n h 0 dX10_readRock_0 rfl rfl ?_
  obtain ⟨k1, hf⟩ := hf
  refine c1790 hl h dX10_readRock_1 k1 hf (Nat.le_of_ble_eq_true rfl) (by decide) (by decide) (fun x3 M2 hf => ?_)
  refine r_bipush (v := 24) h dX10_readRock_4 (by decide) ?_
  refine r_icmp_ne (tgt := 11) h dX10_readRock_6 (by decide) (fun c4 => ?_) (fun c4 => ?_)
  · have hf := ite_f c4 hf
    refine r_aload_n h 0 dX10_readRock_11 rfl rfl ?_
    obtain ⟨k5, hf⟩ := hf
    refine c1852 hl h dX10_readRock_12 k5 hf (Nat.le_of_ble_eq_true rfl) (by decide) (by decide) (fun x7 M6 hf => ?_)
    refine r_istore_n (lv' := [(1, .int x7), (0, .ref a0)]) h dX10_readRock_15 rfl (by decide) rfl ?_
    refine r_iload_n h 0 dX10_readRock_16 rfl rfl ?_
    refine r_if_ge (tgt := 24) h dX10_readRock_17 (by decide) (fun c8 => ?_) (fun c8 => ?_)
    · have hf := ite_t c8 hf
      refine r_aload_n h 1 dX10_readRock_24 rfl rfl ?_
      obtain ⟨k9, hf⟩ := hf
      refine c1829 hl h dX10_readRock_25 k9 hf (Nat.le_of_ble_eq_true rfl) (by decide) (by decide) (fun x11 M10 hf => ?_)
      exact V.sub [1, 0] rfl hf
    · have hf := ite_f c8 hf
      refine r_iconst (v := (-1)) h dX10_readRock_20 (by decide) ?_
      refine r_goto (tgt := 28) h dX10_readRock_21 (by decide) ?_
      exact V.sub [1, 0] rfl hf
  · have hf := ite_t c4 hf
    refine r_iconst (v := 0) h dX10_readRock_9 (by decide) ?_
    exact r_zreturn h hq dX10_readRock_10 (by decide) ⟨_, rfl, hf⟩
theorem c1862 {l : Launch} {G : gG} {X : gX} {cc : ByteArray} {nL F L bc bs pc : Nat} {M : gM} {lv : List (Nat × Value)} {rest : List Value} {a0 : Nat} {K : Int32 → gM → Prop} (hl : l.stackTraces = false) (h : hX l G X cc nL "GlacierMailModel" F L) (d : decode cc pc = .ok (.invokevirtual 212, 3)) (hk : kd M a0 = some (.inl 10)) (hf : f_X10_readRock a0 M K) (hst : (rest.map fun v => v.category).sum ≤ 8) (hF : 6 ≤ F) (hL : 130 ≤ L) (kk : ∀ x M1, K x M1 → V l G X bc bs M1 (pc + 3) lv (.int x :: rest)) : V l G X bc bs M pc lv (.ref a0 :: rest) := r_callV (n := 0) (As := []) h (m_X10_readRock hl hf) 10 rfl hk rfl ⟨by decide, by decide, by decide +kernel⟩ d q1862 q1864 qs79 q147 q1865 rfl rfl hst hF hL (Nat.zero_le _) (Nat.zero_le _) (kI_go kk) kN_go
def f_X10_readTable (a0 : Nat) (M : gM) (K : Int32 → gM → Prop) : Prop :=
  kd M a0 = some (.inl 10) ∧ ∃ b2, rv M a0 1 = some b2 ∧ inA M b2 0 6 ∧ if (iv M b2 (ix 6)) = 6 then K 0 M else f_X10_readSpeeds a0 ((287 : Int32) + ((6 : Int32) * (iv M b2 (ix 6)))) M (fun x7 M6 => if x7 = 0 then K 0 M6 else kd M6 a0 = some (.inl 10) ∧ ∃ b10, rv M6 a0 1 = some b10 ∧ inA M6 b10 0 6 ∧ inA M6 b10 0 6 ∧ ∀ M14, M14 = sI M6 b10 (ix 6) ((iv M6 b10 (ix 6)) + 1) → K 1 M14)
set_option maxHeartbeats 4000000 in
theorem m_X10_readTable {l : Launch} (hl : l.stackTraces = false) {G : gG} {a0 : Nat} {M : gM} {K : Int32 → gM → Prop} (hf : f_X10_readTable a0 M K) : gMet l G yX10_readTable (ws_ yX10_readTable cX10_readTable 2 (some Jvm.ClassFile.FieldType.boolean)) ({ frames := 5, cells := 0, slots := 0, locals := 111 }) M [.ref a0] (kI K) kN := by
  refine gm_of hl (ret := (some Jvm.ClassFile.FieldType.boolean)) rfl (Nat.le_of_ble_eq_true rfl) (fun X h hq => ?_)
  have h : hX l G X cX10_readTable 2 "GlacierMailModel" 5 111 := h
  have hf := hf
  show V l G X 0 0 M 0 [(0, .ref a0)] []
  unfold f_X10_readTable at hf
  refine r_aload_n h 0 dX10_readTable_0 rfl rfl ?_
  obtain ⟨k1, hf⟩ := hf
  obtain ⟨b2, e3, hf⟩ := hf
  refine g1598 h dX10_readTable_1 k1 e3 ?_
  refine r_bipush (v := 6) h dX10_readTable_4 (by decide) ?_
  obtain ⟨j4, hf⟩ := hf
  refine r_iaload h dX10_readTable_6 j4 ?_
  refine r_istore_n (lv' := [(1, .int (iv M b2 (ix 6))), (0, .ref a0)]) h dX10_readTable_7 rfl (by decide) rfl ?_
  refine r_iload_n h 0 dX10_readTable_8 rfl rfl ?_
  refine r_bipush (v := 6) h dX10_readTable_9 (by decide) ?_
  refine r_icmp_eq (tgt := 29) h dX10_readTable_11 (by decide) (fun c5 => ?_) (fun c5 => ?_)
  · have hf := ite_t c5 hf
    refine r_iconst (v := 0) h dX10_readTable_29 (by decide) ?_
    exact r_zreturn h hq dX10_readTable_30 (by decide) ⟨_, rfl, hf⟩
  · have hf := ite_f c5 hf
    refine r_aload_n h 1 dX10_readTable_14 rfl rfl ?_
    refine r_sipush (v := 287) h dX10_readTable_15 (by decide) ?_
    refine r_bipush (v := 6) h dX10_readTable_18 (by decide) ?_
    refine r_iload_n h 0 dX10_readTable_20 rfl rfl ?_
    refine r_imul h dX10_readTable_21 ?_
    refine r_iadd h dX10_readTable_22 ?_
    refine c1816 hl h dX10_readTable_23 k1 hf (Nat.le_of_ble_eq_true rfl) (by decide) (by decide) (fun x7 M6 hf => ?_)
    refine r_if_ne (tgt := 31) h dX10_readTable_26 (by decide) (fun c8 => ?_) (fun c8 => ?_)
    · have hf := ite_f c8 hf
      refine r_aload_n h 1 dX10_readTable_31 rfl rfl ?_
      obtain ⟨k9, hf⟩ := hf
      obtain ⟨b10, e11, hf⟩ := hf
      refine g1598 h dX10_readTable_32 k9 e11 ?_
      refine r_bipush (v := 6) h dX10_readTable_35 (by decide) ?_
      refine r_dup2 h dX10_readTable_37 rfl rfl ?_
      obtain ⟨j12, hf⟩ := hf
      refine r_iaload h dX10_readTable_38 j12 ?_
      refine r_iconst (v := 1) h dX10_readTable_39 (by decide) ?_
      refine r_iadd h dX10_readTable_40 ?_
      obtain ⟨j13, hf⟩ := hf
      refine r_iastore h dX10_readTable_41 j13 ?_
      refine r_goW (fun M14 eM14 => ?_)
      have hf := hf M14 eM14
      refine r_iconst (v := 1) h dX10_readTable_42 (by decide) ?_
      exact r_zreturn h hq dX10_readTable_43 (by decide) ⟨_, rfl, hf⟩
    · have hf := ite_t c8 hf
      refine r_iconst (v := 0) h dX10_readTable_29 (by decide) ?_
      exact r_zreturn h hq dX10_readTable_30 (by decide) ⟨_, rfl, hf⟩
theorem c1875 {l : Launch} {G : gG} {X : gX} {cc : ByteArray} {nL F L bc bs pc : Nat} {M : gM} {lv : List (Nat × Value)} {rest : List Value} {a0 : Nat} {K : Int32 → gM → Prop} (hl : l.stackTraces = false) (h : hX l G X cc nL "GlacierMailModel" F L) (d : decode cc pc = .ok (.invokevirtual 217, 3)) (hk : kd M a0 = some (.inl 10)) (hf : f_X10_readTable a0 M K) (hst : (rest.map fun v => v.category).sum ≤ 8) (hF : 6 ≤ F) (hL : 132 ≤ L) (kk : ∀ x M1, K x M1 → V l G X bc bs M1 (pc + 3) lv (.int x :: rest)) : V l G X bc bs M pc lv (.ref a0 :: rest) := r_callV (n := 0) (As := []) h (m_X10_readTable hl hf) 10 rfl hk rfl ⟨by decide, by decide, by decide +kernel⟩ d q1875 q1877 qs82 q147 q1878 rfl rfl hst hF hL (Nat.zero_le _) (Nat.zero_le _) (kI_go kk) kN_go
def f_X10_readValleyLine (a0 : Nat) (M : gM) (K : Int32 → gM → Prop) : Prop :=
  ∀ P134 : Nat → Int32 → gM → Prop,
  ∀ P150 : Nat → Int32 → Int32 → Int32 → Nat → gM → Prop,
  ∀ P169 : Int32 → Int32 → Nat → gM → Prop,
  (∀ (v0 : Nat) (v1 : Int32) (M : gM), (if v1 = 0 then P150 v0 v1 9999 0 v0 M else kd M v0 = some (.inl 10) ∧ f_X10_lanes v0 M (fun x78 M77 => P150 v0 v1 x78 0 v0 M77)) → P134 v0 v1 M) →
  (∀ (v0 : Nat) (v1 : Int32) (s0 : Int32) (s1 : Int32) (s2 : Nat) (M : gM), (kd M s2 = some (.inl 10) ∧ f_X10_number s2 s1 s0 M (fun x81 M80 => kd M80 v0 = some (.inl 10) ∧ ∃ b83, rv M80 v0 1 = some b83 ∧ if v1 = 0 then P169 x81 13 b83 M80 else P169 x81 12 b83 M80)) → P150 v0 v1 s0 s1 s2 M) →
  (∀ (v2 : Int32) (s0 : Int32) (s1 : Nat) (M : gM), (inA M s1 0 s0 ∧ ∀ M87, M87 = sI M s1 (ix s0) v2 → if v2 < 0 then K 0 M87 else K 1 M87) → P169 v2 s0 s1 M) →
  ∀ w1, kd M w1 = some (.inr (10, 10)) → kd M a0 = some (.inl 10) ∧ f_X10_isWord a0 w1 M (fun x4 M3 => if x4 = 0 then ∀ w6, kd M3 w6 = some (.inr (10, 11)) → kd M3 a0 = some (.inl 10) ∧ f_X10_isWord a0 w6 M3 (fun x9 M8 => if x9 = 0 then ∀ w11, kd M8 w11 = some (.inr (10, 12)) → kd M8 a0 = some (.inl 10) ∧ f_X10_isWord a0 w11 M8 (fun x14 M13 => if x14 = 0 then ∀ w16, kd M13 w16 = some (.inr (10, 13)) → kd M13 a0 = some (.inl 10) ∧ f_X10_isWord a0 w16 M13 (fun x19 M18 => if x19 = 0 then ∀ w21, kd M18 w21 = some (.inr (10, 17)) → kd M18 a0 = some (.inl 10) ∧ f_X10_isWord a0 w21 M18 (fun x24 M23 => if x24 = 0 then ∀ w26, kd M23 w26 = some (.inr (10, 5)) → kd M23 a0 = some (.inl 10) ∧ f_X10_isWord a0 w26 M23 (fun x29 M28 => if x29 = 0 then ∀ w31, kd M28 w31 = some (.inr (10, 19)) → kd M28 a0 = some (.inl 10) ∧ f_X10_isWord a0 w31 M28 (fun x34 M33 => if x34 = 0 then ∀ w36, kd M33 w36 = some (.inr (10, 20)) → kd M33 a0 = some (.inl 10) ∧ f_X10_isWord a0 w36 M33 (fun x39 M38 => if x39 = 0 then ∀ w41, kd M38 w41 = some (.inr (10, 15)) → kd M38 a0 = some (.inl 10) ∧ f_X10_isWord a0 w41 M38 (fun x44 M43 => if x44 = 0 then ∀ w46, kd M43 w46 = some (.inr (10, 16)) → kd M43 a0 = some (.inl 10) ∧ f_X10_isWord a0 w46 M43 (fun x49 M48 => if x49 = 0 then K 0 M48 else P134 a0 x44 M48) else P134 a0 x44 M43) else kd M38 a0 = some (.inl 10) ∧ f_X10_readTable a0 M38 (fun x53 M52 => (x53 = 0 ∨ x53 = 1) ∧ K x53 M52)) else kd M33 a0 = some (.inl 10) ∧ f_X10_readRock a0 M33 (fun x56 M55 => (x56 = 0 ∨ x56 = 1) ∧ K x56 M55)) else kd M28 a0 = some (.inl 10) ∧ f_X10_readPerson a0 M28 (fun x59 M58 => (x59 = 0 ∨ x59 = 1) ∧ K x59 M58)) else kd M23 a0 = some (.inl 10) ∧ f_X10_readFlood a0 M23 (fun x62 M61 => (x62 = 0 ∨ x62 = 1) ∧ K x62 M61)) else kd M18 a0 = some (.inl 10) ∧ f_X10_readSnow a0 M18 (fun x65 M64 => (x65 = 0 ∨ x65 = 1) ∧ K x65 M64)) else kd M13 a0 = some (.inl 10) ∧ f_X10_readSection a0 M13 (fun x68 M67 => (x68 = 0 ∨ x68 = 1) ∧ K x68 M67)) else kd M8 a0 = some (.inl 10) ∧ f_X10_readLast a0 M8 (fun x71 M70 => (x71 = 0 ∨ x71 = 1) ∧ K x71 M70)) else kd M3 a0 = some (.inl 10) ∧ f_X10_readLanes a0 M3 (fun x74 M73 => (x74 = 0 ∨ x74 = 1) ∧ K x74 M73))
set_option maxHeartbeats 4000000 in
theorem m_X10_readValleyLine {l : Launch} (hl : l.stackTraces = false) {G : gG} {a0 : Nat} {M : gM} {K : Int32 → gM → Prop} (hf : f_X10_readValleyLine a0 M K) : gMet l G yX10_readValleyLine (ws_ yX10_readValleyLine cX10_readValleyLine 3 (some Jvm.ClassFile.FieldType.boolean)) ({ frames := 7, cells := 0, slots := 0, locals := 153 }) M [.ref a0] (kI K) kN := by
  refine gm_of hl (ret := (some Jvm.ClassFile.FieldType.boolean)) rfl (Nat.le_of_ble_eq_true rfl) (fun X h hq => ?_)
  have h : hX l G X cX10_readValleyLine 3 "GlacierMailModel" 7 153 := h
  have hf := hf
  show V l G X 0 0 M 0 [(0, .ref a0)] []
  have hf := hf
    (fun v0 v1 M => V l G X 0 0 M 134 [(0, .ref v0), (1, .int v1)] [])
    (fun v0 v1 s0 s1 s2 M => V l G X 0 0 M 150 [(0, .ref v0), (1, .int v1)] [.int s0, .int s1, .ref s2])
    (fun v2 s0 s1 M => V l G X 0 0 M 169 [(2, .int v2)] [.int s0, .ref s1])
    (by
      intro v0 v1 M hf
      show V l G X 0 0 M 134 [(0, .ref v0), (1, .int v1)] []
      refine r_aload_n h 0 dX10_readValleyLine_134 rfl rfl ?_
      refine r_iconst (v := 0) h dX10_readValleyLine_135 (by decide) ?_
      refine r_iload_n h 1 dX10_readValleyLine_136 rfl rfl ?_
      refine r_if_eq (tgt := 147) h dX10_readValleyLine_137 (by decide) (fun c75 => ?_) (fun c75 => ?_)
      · have hf := ite_t c75 hf
        refine r_sipush (v := 9999) h dX10_readValleyLine_147 (by decide) ?_
        exact V.sub [0, 1] rfl hf
      · have hf := ite_f c75 hf
        refine r_aload_n h 0 dX10_readValleyLine_140 rfl rfl ?_
        obtain ⟨k76, hf⟩ := hf
        refine c1820 hl h dX10_readValleyLine_141 k76 hf (Nat.le_of_ble_eq_true rfl) (by decide) (by decide) (fun x78 M77 hf => ?_)
        refine r_goto (tgt := 150) h dX10_readValleyLine_144 (by decide) ?_
        exact V.sub [0, 1] rfl hf)
    (by
      intro v0 v1 s0 s1 s2 M hf
      show V l G X 0 0 M 150 [(0, .ref v0), (1, .int v1)] [.int s0, .int s1, .ref s2]
      obtain ⟨k79, hf⟩ := hf
      refine c1794 hl h dX10_readValleyLine_150 k79 hf (Nat.le_of_ble_eq_true rfl) (by decide) (by decide) (fun x81 M80 hf => ?_)
      refine r_istore_n (lv' := [(2, .int x81), (0, .ref v0), (1, .int v1)]) h dX10_readValleyLine_153 rfl (by decide) rfl ?_
      refine r_aload_n h 1 dX10_readValleyLine_154 rfl rfl ?_
      obtain ⟨k82, hf⟩ := hf
      obtain ⟨b83, e84, hf⟩ := hf
      refine g1598 h dX10_readValleyLine_155 k82 e84 ?_
      refine r_iload_n h 2 dX10_readValleyLine_158 rfl rfl ?_
      refine r_if_eq (tgt := 167) h dX10_readValleyLine_159 (by decide) (fun c85 => ?_) (fun c85 => ?_)
      · have hf := ite_t c85 hf
        refine r_bipush (v := 13) h dX10_readValleyLine_167 (by decide) ?_
        exact V.sub [0] rfl hf
      · have hf := ite_f c85 hf
        refine r_bipush (v := 12) h dX10_readValleyLine_162 (by decide) ?_
        refine r_goto (tgt := 169) h dX10_readValleyLine_164 (by decide) ?_
        exact V.sub [0] rfl hf)
    (by
      intro v2 s0 s1 M hf
      show V l G X 0 0 M 169 [(2, .int v2)] [.int s0, .ref s1]
      refine r_iload_n h 0 dX10_readValleyLine_169 rfl rfl ?_
      obtain ⟨j86, hf⟩ := hf
      refine r_iastore h dX10_readValleyLine_170 j86 ?_
      refine r_goW (fun M87 eM87 => ?_)
      have hf := hf M87 eM87
      refine r_iload_n h 0 dX10_readValleyLine_171 rfl rfl ?_
      refine r_if_lt (tgt := 179) h dX10_readValleyLine_172 (by decide) (fun c88 => ?_) (fun c88 => ?_)
      · have hf := ite_t c88 hf
        refine r_iconst (v := 0) h dX10_readValleyLine_179 (by decide) ?_
        exact r_zreturn h hq dX10_readValleyLine_180 (by decide) ⟨_, rfl, hf⟩
      · have hf := ite_f c88 hf
        refine r_iconst (v := 1) h dX10_readValleyLine_175 (by decide) ?_
        refine r_goto (tgt := 180) h dX10_readValleyLine_176 (by decide) ?_
        exact r_zreturn h hq dX10_readValleyLine_180 (by decide) ⟨_, rfl, hf⟩)
  refine r_aload_n h 0 dX10_readValleyLine_0 rfl rfl ?_
  refine r_ldcS h (i := 10) (by decide) (List.mem_of_getElem? (i := 28) rfl) dX10_readValleyLine_1 (fun w1 kw1 => ?_)
  have hf := hf w1 kw1
  obtain ⟨k2, hf⟩ := hf
  refine c1772 hl h dX10_readValleyLine_3 k2 hf (Nat.le_of_ble_eq_true rfl) (by decide) (by decide) (fun x4 M3 hf => ?_)
  refine r_if_eq (tgt := 14) h dX10_readValleyLine_6 (by decide) (fun c5 => ?_) (fun c5 => ?_)
  · have hf := ite_t c5 hf
    refine r_aload_n h 0 dX10_readValleyLine_14 rfl rfl ?_
    refine r_ldcS h (i := 11) (by decide) (List.mem_of_getElem? (i := 29) rfl) dX10_readValleyLine_15 (fun w6 kw6 => ?_)
    have hf := hf w6 kw6
    obtain ⟨k7, hf⟩ := hf
    refine c1772 hl h dX10_readValleyLine_17 k7 hf (Nat.le_of_ble_eq_true rfl) (by decide) (by decide) (fun x9 M8 hf => ?_)
    refine r_if_eq (tgt := 28) h dX10_readValleyLine_20 (by decide) (fun c10 => ?_) (fun c10 => ?_)
    · have hf := ite_t c10 hf
      refine r_aload_n h 0 dX10_readValleyLine_28 rfl rfl ?_
      refine r_ldcS h (i := 12) (by decide) (List.mem_of_getElem? (i := 30) rfl) dX10_readValleyLine_29 (fun w11 kw11 => ?_)
      have hf := hf w11 kw11
      obtain ⟨k12, hf⟩ := hf
      refine c1772 hl h dX10_readValleyLine_31 k12 hf (Nat.le_of_ble_eq_true rfl) (by decide) (by decide) (fun x14 M13 hf => ?_)
      refine r_if_eq (tgt := 42) h dX10_readValleyLine_34 (by decide) (fun c15 => ?_) (fun c15 => ?_)
      · have hf := ite_t c15 hf
        refine r_aload_n h 0 dX10_readValleyLine_42 rfl rfl ?_
        refine r_ldcS h (i := 13) (by decide) (List.mem_of_getElem? (i := 31) rfl) dX10_readValleyLine_43 (fun w16 kw16 => ?_)
        have hf := hf w16 kw16
        obtain ⟨k17, hf⟩ := hf
        refine c1772 hl h dX10_readValleyLine_45 k17 hf (Nat.le_of_ble_eq_true rfl) (by decide) (by decide) (fun x19 M18 hf => ?_)
        refine r_if_eq (tgt := 56) h dX10_readValleyLine_48 (by decide) (fun c20 => ?_) (fun c20 => ?_)
        · have hf := ite_t c20 hf
          refine r_aload_n h 0 dX10_readValleyLine_56 rfl rfl ?_
          refine r_ldcS h (i := 17) (by decide) (List.mem_of_getElem? (i := 33) rfl) dX10_readValleyLine_57 (fun w21 kw21 => ?_)
          have hf := hf w21 kw21
          obtain ⟨k22, hf⟩ := hf
          refine c1772 hl h dX10_readValleyLine_59 k22 hf (Nat.le_of_ble_eq_true rfl) (by decide) (by decide) (fun x24 M23 hf => ?_)
          refine r_if_eq (tgt := 70) h dX10_readValleyLine_62 (by decide) (fun c25 => ?_) (fun c25 => ?_)
          · have hf := ite_t c25 hf
            refine r_aload_n h 0 dX10_readValleyLine_70 rfl rfl ?_
            refine r_ldcS h (i := 5) (by decide) (List.mem_of_getElem? (i := 34) rfl) dX10_readValleyLine_71 (fun w26 kw26 => ?_)
            have hf := hf w26 kw26
            obtain ⟨k27, hf⟩ := hf
            refine c1772 hl h dX10_readValleyLine_73 k27 hf (Nat.le_of_ble_eq_true rfl) (by decide) (by decide) (fun x29 M28 hf => ?_)
            refine r_if_eq (tgt := 84) h dX10_readValleyLine_76 (by decide) (fun c30 => ?_) (fun c30 => ?_)
            · have hf := ite_t c30 hf
              refine r_aload_n h 0 dX10_readValleyLine_84 rfl rfl ?_
              refine r_ldcS h (i := 19) (by decide) (List.mem_of_getElem? (i := 36) rfl) dX10_readValleyLine_85 (fun w31 kw31 => ?_)
              have hf := hf w31 kw31
              obtain ⟨k32, hf⟩ := hf
              refine c1772 hl h dX10_readValleyLine_87 k32 hf (Nat.le_of_ble_eq_true rfl) (by decide) (by decide) (fun x34 M33 hf => ?_)
              refine r_if_eq (tgt := 98) h dX10_readValleyLine_90 (by decide) (fun c35 => ?_) (fun c35 => ?_)
              · have hf := ite_t c35 hf
                refine r_aload_n h 0 dX10_readValleyLine_98 rfl rfl ?_
                refine r_ldcS h (i := 20) (by decide) (List.mem_of_getElem? (i := 37) rfl) dX10_readValleyLine_99 (fun w36 kw36 => ?_)
                have hf := hf w36 kw36
                obtain ⟨k37, hf⟩ := hf
                refine c1772 hl h dX10_readValleyLine_101 k37 hf (Nat.le_of_ble_eq_true rfl) (by decide) (by decide) (fun x39 M38 hf => ?_)
                refine r_if_eq (tgt := 112) h dX10_readValleyLine_104 (by decide) (fun c40 => ?_) (fun c40 => ?_)
                · have hf := ite_t c40 hf
                  refine r_aload_n h 0 dX10_readValleyLine_112 rfl rfl ?_
                  refine r_ldcS h (i := 15) (by decide) (List.mem_of_getElem? (i := 38) rfl) dX10_readValleyLine_113 (fun w41 kw41 => ?_)
                  have hf := hf w41 kw41
                  obtain ⟨k42, hf⟩ := hf
                  refine c1772 hl h dX10_readValleyLine_115 k42 hf (Nat.le_of_ble_eq_true rfl) (by decide) (by decide) (fun x44 M43 hf => ?_)
                  refine r_istore_n (lv' := [(1, .int x44), (0, .ref a0)]) h dX10_readValleyLine_118 rfl (by decide) rfl ?_
                  refine r_iload_n h 0 dX10_readValleyLine_119 rfl rfl ?_
                  refine r_if_ne (tgt := 134) h dX10_readValleyLine_120 (by decide) (fun c45 => ?_) (fun c45 => ?_)
                  · have hf := ite_f c45 hf
                    exact V.sub [1, 0] rfl hf
                  · have hf := ite_t c45 hf
                    refine r_aload_n h 1 dX10_readValleyLine_123 rfl rfl ?_
                    refine r_ldcS h (i := 16) (by decide) (List.mem_of_getElem? (i := 39) rfl) dX10_readValleyLine_124 (fun w46 kw46 => ?_)
                    have hf := hf w46 kw46
                    obtain ⟨k47, hf⟩ := hf
                    refine c1772 hl h dX10_readValleyLine_126 k47 hf (Nat.le_of_ble_eq_true rfl) (by decide) (by decide) (fun x49 M48 hf => ?_)
                    refine r_if_ne (tgt := 134) h dX10_readValleyLine_129 (by decide) (fun c50 => ?_) (fun c50 => ?_)
                    · have hf := ite_f c50 hf
                      exact V.sub [1, 0] rfl hf
                    · have hf := ite_t c50 hf
                      refine r_iconst (v := 0) h dX10_readValleyLine_132 (by decide) ?_
                      exact r_zreturn h hq dX10_readValleyLine_133 (by decide) ⟨_, rfl, hf⟩
                · have hf := ite_f c40 hf
                  refine r_aload_n h 0 dX10_readValleyLine_107 rfl rfl ?_
                  obtain ⟨k51, hf⟩ := hf
                  refine c1875 hl h dX10_readValleyLine_108 k51 hf (Nat.le_of_ble_eq_true rfl) (by decide) (by decide) (fun x53 M52 hf => ?_)
                  exact r_zreturn h hq dX10_readValleyLine_111 hf.1 ⟨_, rfl, hf.2⟩
              · have hf := ite_f c35 hf
                refine r_aload_n h 0 dX10_readValleyLine_93 rfl rfl ?_
                obtain ⟨k54, hf⟩ := hf
                refine c1862 hl h dX10_readValleyLine_94 k54 hf (Nat.le_of_ble_eq_true rfl) (by decide) (by decide) (fun x56 M55 hf => ?_)
                exact r_zreturn h hq dX10_readValleyLine_97 hf.1 ⟨_, rfl, hf.2⟩
            · have hf := ite_f c30 hf
              refine r_aload_n h 0 dX10_readValleyLine_79 rfl rfl ?_
              obtain ⟨k57, hf⟩ := hf
              refine c1848 hl h dX10_readValleyLine_80 k57 hf (Nat.le_of_ble_eq_true rfl) (by decide) (by decide) (fun x59 M58 hf => ?_)
              exact r_zreturn h hq dX10_readValleyLine_83 hf.1 ⟨_, rfl, hf.2⟩
          · have hf := ite_f c25 hf
            refine r_aload_n h 0 dX10_readValleyLine_65 rfl rfl ?_
            obtain ⟨k60, hf⟩ := hf
            refine c1839 hl h dX10_readValleyLine_66 k60 hf (Nat.le_of_ble_eq_true rfl) (by decide) (by decide) (fun x62 M61 hf => ?_)
            exact r_zreturn h hq dX10_readValleyLine_69 hf.1 ⟨_, rfl, hf.2⟩
        · have hf := ite_f c20 hf
          refine r_aload_n h 0 dX10_readValleyLine_51 rfl rfl ?_
          obtain ⟨k63, hf⟩ := hf
          refine c1825 hl h dX10_readValleyLine_52 k63 hf (Nat.le_of_ble_eq_true rfl) (by decide) (by decide) (fun x65 M64 hf => ?_)
          exact r_zreturn h hq dX10_readValleyLine_55 hf.1 ⟨_, rfl, hf.2⟩
      · have hf := ite_f c15 hf
        refine r_aload_n h 0 dX10_readValleyLine_37 rfl rfl ?_
        obtain ⟨k66, hf⟩ := hf
        refine c1808 hl h dX10_readValleyLine_38 k66 hf (Nat.le_of_ble_eq_true rfl) (by decide) (by decide) (fun x68 M67 hf => ?_)
        exact r_zreturn h hq dX10_readValleyLine_41 hf.1 ⟨_, rfl, hf.2⟩
    · have hf := ite_f c10 hf
      refine r_aload_n h 0 dX10_readValleyLine_23 rfl rfl ?_
      obtain ⟨k69, hf⟩ := hf
      refine c1803 hl h dX10_readValleyLine_24 k69 hf (Nat.le_of_ble_eq_true rfl) (by decide) (by decide) (fun x71 M70 hf => ?_)
      exact r_zreturn h hq dX10_readValleyLine_27 hf.1 ⟨_, rfl, hf.2⟩
  · have hf := ite_f c5 hf
    refine r_aload_n h 0 dX10_readValleyLine_9 rfl rfl ?_
    obtain ⟨k72, hf⟩ := hf
    refine c1778 hl h dX10_readValleyLine_10 k72 hf (Nat.le_of_ble_eq_true rfl) (by decide) (by decide) (fun x74 M73 hf => ?_)
    exact r_zreturn h hq dX10_readValleyLine_13 hf.1 ⟨_, rfl, hf.2⟩
theorem c1767 {l : Launch} {G : gG} {X : gX} {cc : ByteArray} {nL F L bc bs pc : Nat} {M : gM} {lv : List (Nat × Value)} {rest : List Value} {a0 : Nat} {K : Int32 → gM → Prop} (hl : l.stackTraces = false) (h : hX l G X cc nL "GlacierMailModel" F L) (d : decode cc pc = .ok (.invokevirtual 283, 3)) (hk : kd M a0 = some (.inl 10)) (hf : f_X10_readValleyLine a0 M K) (hst : (rest.map fun v => v.category).sum ≤ 8) (hF : 8 ≤ F) (hL : 175 ≤ L) (kk : ∀ x M1, K x M1 → V l G X bc bs M1 (pc + 3) lv (.int x :: rest)) : V l G X bc bs M pc lv (.ref a0 :: rest) := r_callV (n := 0) (As := []) h (m_X10_readValleyLine hl hf) 10 rfl hk rfl ⟨by decide, by decide, by decide +kernel⟩ d q1767 q1769 qs58 q147 q1770 rfl rfl hst hF hL (Nat.zero_le _) (Nat.zero_le _) (kI_go kk) kN_go
def f_X10_sign (a0 : Nat) (a1 : Int32) (M : gM) (K : Int32 → gM → Prop) : Prop :=
  kd M a0 = some (.inl 10) ∧ f_X10_blanks a0 M (fun M2 => kd M2 a0 = some (.inl 10) ∧ f_X10_isAt a0 a1 a1 M2 (fun x5 M4 => if x5 = 0 then K 0 M4 else kd M4 a0 = some (.inl 10) ∧ ∀ M8, M8 = sI M4 a0 9 ((iv M4 a0 9) + 1) → K 1 M8))
set_option maxHeartbeats 4000000 in
theorem m_X10_sign {l : Launch} (hl : l.stackTraces = false) {G : gG} {a0 : Nat} {a1 : Int32} {M : gM} {K : Int32 → gM → Prop} (hf : f_X10_sign a0 a1 M K) : gMet l G yX10_sign (ws_ yX10_sign cX10_sign 2 (some Jvm.ClassFile.FieldType.boolean)) ({ frames := 2, cells := 0, slots := 0, locals := 42 }) M [.ref a0, .int a1] (kI K) kN := by
  refine gm_of hl (ret := (some Jvm.ClassFile.FieldType.boolean)) rfl (Nat.le_of_ble_eq_true rfl) (fun X h hq => ?_)
  have h : hX l G X cX10_sign 2 "GlacierMailModel" 2 42 := h
  have hf := hf
  show V l G X 0 0 M 0 [(0, .ref a0), (1, .int a1)] []
  unfold f_X10_sign at hf
  refine r_aload_n h 0 dX10_sign_0 rfl rfl ?_
  obtain ⟨k1, hf⟩ := hf
  refine c1751 hl h dX10_sign_1 k1 hf (Nat.le_of_ble_eq_true rfl) (by decide) (by decide) (fun M2 hf => ?_)
  refine r_aload_n h 0 dX10_sign_4 rfl rfl ?_
  refine r_iload_n h 1 dX10_sign_5 rfl rfl ?_
  refine r_iload_n h 1 dX10_sign_6 rfl rfl ?_
  obtain ⟨k3, hf⟩ := hf
  refine c1755 hl h dX10_sign_7 k3 hf (Nat.le_of_ble_eq_true rfl) (by decide) (by decide) (fun x5 M4 hf => ?_)
  refine r_if_ne (tgt := 15) h dX10_sign_10 (by decide) (fun c6 => ?_) (fun c6 => ?_)
  · have hf := ite_f c6 hf
    refine r_aload_n h 0 dX10_sign_15 rfl rfl ?_
    refine r_dup h dX10_sign_16 rfl ?_
    obtain ⟨k7, hf⟩ := hf
    refine g1606 h dX10_sign_17 k7 ?_
    refine r_iconst (v := 1) h dX10_sign_20 (by decide) ?_
    refine r_iadd h dX10_sign_21 ?_
    refine p1606 h dX10_sign_22 k7 ?_
    refine r_goW (fun M8 eM8 => ?_)
    have hf := hf M8 eM8
    refine r_iconst (v := 1) h dX10_sign_25 (by decide) ?_
    exact r_zreturn h hq dX10_sign_26 (by decide) ⟨_, rfl, hf⟩
  · have hf := ite_t c6 hf
    refine r_iconst (v := 0) h dX10_sign_13 (by decide) ?_
    exact r_zreturn h hq dX10_sign_14 (by decide) ⟨_, rfl, hf⟩
theorem c1901 {l : Launch} {G : gG} {X : gX} {cc : ByteArray} {nL F L bc bs pc : Nat} {M : gM} {lv : List (Nat × Value)} {rest : List Value} {a0 : Nat} {a1 : Int32} {K : Int32 → gM → Prop} (hl : l.stackTraces = false) (h : hX l G X cc nL "GlacierMailModel" F L) (d : decode cc pc = .ok (.invokevirtual 248, 3)) (hk : kd M a0 = some (.inl 10)) (hf : f_X10_sign a0 a1 M K) (hst : (rest.map fun v => v.category).sum ≤ 8) (hF : 3 ≤ F) (hL : 63 ≤ L) (kk : ∀ x M1, K x M1 → V l G X bc bs M1 (pc + 3) lv (.int x :: rest)) : V l G X bc bs M pc lv (.int a1 :: .ref a0 :: rest) := r_callV (n := 1) (As := [.int a1]) h (m_X10_sign hl hf) 10 rfl hk rfl ⟨by decide, by decide, by decide +kernel⟩ d q1901 q1903 qs87 q147 q1904 rfl rfl hst hF hL (Nat.zero_le _) (Nat.zero_le _) (kI_go kk) kN_go
def f_X10_emits (a0 : Nat) (a1 : Int32) (a2 : Int32) (M : gM) (K : gM → Prop) : Prop :=
  kd M a0 = some (.inl 10) ∧ ∃ b2, rv M a0 1 = some b2 ∧ inA M b2 0 ((1293 : Int32) + ((2 : Int32) * (iv M a0 15))) ∧ ∀ M5, M5 = sI M b2 (ix ((1293 : Int32) + ((2 : Int32) * (iv M a0 15)))) a1 → kd M5 a0 = some (.inl 10) ∧ ∃ b7, rv M5 a0 1 = some b7 ∧ inA M5 b7 0 (((1293 : Int32) + ((2 : Int32) * (iv M5 a0 15))) + 1) ∧ ∀ M10, M10 = sI M5 b7 (ix (((1293 : Int32) + ((2 : Int32) * (iv M5 a0 15))) + 1)) a2 → kd M10 a0 = some (.inl 10) ∧ ∀ M12, M12 = sI M10 a0 15 ((iv M10 a0 15) + 1) → K M12
set_option maxHeartbeats 4000000 in
theorem m_X10_emits {l : Launch} (hl : l.stackTraces = false) {G : gG} {a0 : Nat} {a1 : Int32} {a2 : Int32} {M : gM} {K : gM → Prop} (hf : f_X10_emits a0 a1 a2 M K) : gMet l G yX10_emits (ws_ yX10_emits cX10_emits 3 none) ({ frames := 0, cells := 0, slots := 0, locals := 0 }) M [.ref a0, .int a1, .int a2] (kV K) kN := by
  refine gm_of hl (ret := none) rfl (Nat.le_of_ble_eq_true rfl) (fun X h hq => ?_)
  have h : hX l G X cX10_emits 3 "GlacierMailModel" 0 0 := h
  have hf := hf
  show V l G X 0 0 M 0 [(0, .ref a0), (1, .int a1), (2, .int a2)] []
  unfold f_X10_emits at hf
  refine r_aload_n h 0 dX10_emits_0 rfl rfl ?_
  obtain ⟨k1, hf⟩ := hf
  obtain ⟨b2, e3, hf⟩ := hf
  refine g1598 h dX10_emits_1 k1 e3 ?_
  refine r_sipush (v := 1293) h dX10_emits_4 (by decide) ?_
  refine r_iconst (v := 2) h dX10_emits_7 (by decide) ?_
  refine r_aload_n h 0 dX10_emits_8 rfl rfl ?_
  refine g1612 h dX10_emits_9 k1 ?_
  refine r_imul h dX10_emits_12 ?_
  refine r_iadd h dX10_emits_13 ?_
  refine r_iload_n h 1 dX10_emits_14 rfl rfl ?_
  obtain ⟨j4, hf⟩ := hf
  refine r_iastore h dX10_emits_15 j4 ?_
  refine r_goW (fun M5 eM5 => ?_)
  have hf := hf M5 eM5
  refine r_aload_n h 0 dX10_emits_16 rfl rfl ?_
  obtain ⟨k6, hf⟩ := hf
  obtain ⟨b7, e8, hf⟩ := hf
  refine g1598 h dX10_emits_17 k6 e8 ?_
  refine r_sipush (v := 1293) h dX10_emits_20 (by decide) ?_
  refine r_iconst (v := 2) h dX10_emits_23 (by decide) ?_
  refine r_aload_n h 0 dX10_emits_24 rfl rfl ?_
  refine g1612 h dX10_emits_25 k6 ?_
  refine r_imul h dX10_emits_28 ?_
  refine r_iadd h dX10_emits_29 ?_
  refine r_iconst (v := 1) h dX10_emits_30 (by decide) ?_
  refine r_iadd h dX10_emits_31 ?_
  refine r_iload_n h 2 dX10_emits_32 rfl rfl ?_
  obtain ⟨j9, hf⟩ := hf
  refine r_iastore h dX10_emits_33 j9 ?_
  refine r_goW (fun M10 eM10 => ?_)
  have hf := hf M10 eM10
  refine r_aload_n h 0 dX10_emits_34 rfl rfl ?_
  refine r_dup h dX10_emits_35 rfl ?_
  obtain ⟨k11, hf⟩ := hf
  refine g1612 h dX10_emits_36 k11 ?_
  refine r_iconst (v := 1) h dX10_emits_39 (by decide) ?_
  refine r_iadd h dX10_emits_40 ?_
  refine p1612 h dX10_emits_41 k11 ?_
  refine r_goW (fun M12 eM12 => ?_)
  have hf := hf M12 eM12
  exact r_return h hq dX10_emits_44 ⟨rfl, hf⟩
theorem c1906 {l : Launch} {G : gG} {X : gX} {cc : ByteArray} {nL F L bc bs pc : Nat} {M : gM} {lv : List (Nat × Value)} {rest : List Value} {a0 : Nat} {a1 : Int32} {a2 : Int32} {K : gM → Prop} (hl : l.stackTraces = false) (h : hX l G X cc nL "GlacierMailModel" F L) (d : decode cc pc = .ok (.invokevirtual 227, 3)) (hk : kd M a0 = some (.inl 10)) (hf : f_X10_emits a0 a1 a2 M K) (hst : (rest.map fun v => v.category).sum ≤ 8) (hF : 1 ≤ F) (hL : 22 ≤ L) (kk : ∀ M1, K M1 → V l G X bc bs M1 (pc + 3) lv rest) : V l G X bc bs M pc lv (.int a2 :: .int a1 :: .ref a0 :: rest) := r_callV (n := 2) (As := [.int a1, .int a2]) h (m_X10_emits hl hf) 10 rfl hk rfl ⟨by decide, by decide, by decide +kernel⟩ d q1906 q1908 qs88 q147 q1909 rfl rfl hst hF hL (Nat.zero_le _) (Nat.zero_le _) (kV_go kk) kN_go
def f_X10_readPart (a0 : Nat) (M : gM) (K : Int32 → gM → Prop) : Prop :=
  ∀ P149 : Int32 → gM → Prop,
  (∀ (v1 : Int32) (M : gM), (if v1 < 0 then K 0 M else K 1 M) → P149 v1 M) →
  kd M a0 = some (.inl 10) ∧ f_X10_letterRow a0 M (fun M2 => kd M2 a0 = some (.inl 10) ∧ if (iv M2 a0 9) = (iv M2 a0 11) then f_X10_figures a0 0 999 3 M2 (fun x63 M62 => kd M62 a0 = some (.inl 10) ∧ f_X10_emits a0 10 x63 M62 (fun M65 => P149 x63 M65)) else ∀ w5, kd M2 w5 = some (.inr (10, 0)) → f_X10_isWord a0 w5 M2 (fun x7 M6 => if x7 = 0 then ∀ w9, kd M6 w9 = some (.inr (10, 1)) → kd M6 a0 = some (.inl 10) ∧ f_X10_isWord a0 w9 M6 (fun x12 M11 => if x12 = 0 then ∀ w14, kd M11 w14 = some (.inr (10, 2)) → kd M11 a0 = some (.inl 10) ∧ f_X10_isWord a0 w14 M11 (fun x17 M16 => if x17 = 0 then ∀ w19, kd M16 w19 = some (.inr (10, 3)) → kd M16 a0 = some (.inl 10) ∧ f_X10_isWord a0 w19 M16 (fun x22 M21 => if x22 = 0 then ∀ w24, kd M21 w24 = some (.inr (10, 4)) → kd M21 a0 = some (.inl 10) ∧ f_X10_isWord a0 w24 M21 (fun x27 M26 => if x27 = 0 then ∀ w29, kd M26 w29 = some (.inr (10, 5)) → kd M26 a0 = some (.inl 10) ∧ f_X10_isWord a0 w29 M26 (fun x32 M31 => if x32 = 0 then ∀ w34, kd M31 w34 = some (.inr (10, 6)) → kd M31 a0 = some (.inl 10) ∧ f_X10_isWord a0 w34 M31 (fun x37 M36 => if x37 = 0 then ∀ w39, kd M36 w39 = some (.inr (10, 7)) → kd M36 a0 = some (.inl 10) ∧ f_X10_isWord a0 w39 M36 (fun x42 M41 => if x42 = 0 then kd M41 a0 = some (.inl 10) ∧ f_X10_emits a0 (-1) 0 M41 (fun M45 => P149 (-1) M45) else kd M41 a0 = some (.inl 10) ∧ f_X10_emits a0 7 0 M41 (fun M47 => P149 7 M47)) else kd M36 a0 = some (.inl 10) ∧ f_X10_emits a0 6 0 M36 (fun M49 => P149 6 M49)) else kd M31 a0 = some (.inl 10) ∧ f_X10_emits a0 5 0 M31 (fun M51 => P149 5 M51)) else kd M26 a0 = some (.inl 10) ∧ f_X10_emits a0 4 0 M26 (fun M53 => P149 4 M53)) else kd M21 a0 = some (.inl 10) ∧ f_X10_emits a0 3 0 M21 (fun M55 => P149 3 M55)) else kd M16 a0 = some (.inl 10) ∧ f_X10_emits a0 2 0 M16 (fun M57 => P149 2 M57)) else kd M11 a0 = some (.inl 10) ∧ f_X10_emits a0 1 0 M11 (fun M59 => P149 1 M59)) else kd M6 a0 = some (.inl 10) ∧ f_X10_emits a0 0 0 M6 (fun M61 => P149 0 M61)))
set_option maxHeartbeats 4000000 in
theorem m_X10_readPart {l : Launch} (hl : l.stackTraces = false) {G : gG} {a0 : Nat} {M : gM} {K : Int32 → gM → Prop} (hf : f_X10_readPart a0 M K) : gMet l G yX10_readPart (ws_ yX10_readPart cX10_readPart 2 (some Jvm.ClassFile.FieldType.boolean)) ({ frames := 5, cells := 0, slots := 0, locals := 108 }) M [.ref a0] (kI K) kN := by
  refine gm_of hl (ret := (some Jvm.ClassFile.FieldType.boolean)) rfl (Nat.le_of_ble_eq_true rfl) (fun X h hq => ?_)
  have h : hX l G X cX10_readPart 2 "GlacierMailModel" 5 108 := h
  have hf := hf
  show V l G X 0 0 M 0 [(0, .ref a0)] []
  have hf := hf
    (fun v1 M => V l G X 0 0 M 149 [(1, .int v1)] [])
    (by
      intro v1 M hf
      show V l G X 0 0 M 149 [(1, .int v1)] []
      refine r_iload_n h 0 dX10_readPart_149 rfl rfl ?_
      refine r_if_lt (tgt := 157) h dX10_readPart_150 (by decide) (fun c66 => ?_) (fun c66 => ?_)
      · have hf := ite_t c66 hf
        refine r_iconst (v := 0) h dX10_readPart_157 (by decide) ?_
        exact r_zreturn h hq dX10_readPart_158 (by decide) ⟨_, rfl, hf⟩
      · have hf := ite_f c66 hf
        refine r_iconst (v := 1) h dX10_readPart_153 (by decide) ?_
        refine r_goto (tgt := 158) h dX10_readPart_154 (by decide) ?_
        exact r_zreturn h hq dX10_readPart_158 (by decide) ⟨_, rfl, hf⟩)
  refine r_aload_n h 0 dX10_readPart_0 rfl rfl ?_
  obtain ⟨k1, hf⟩ := hf
  refine c1763 hl h dX10_readPart_1 k1 hf (Nat.le_of_ble_eq_true rfl) (by decide) (by decide) (fun M2 hf => ?_)
  refine r_aload_n h 0 dX10_readPart_4 rfl rfl ?_
  obtain ⟨k3, hf⟩ := hf
  refine g1606 h dX10_readPart_5 k3 ?_
  refine r_aload_n h 0 dX10_readPart_8 rfl rfl ?_
  refine g1608 h dX10_readPart_9 k3 ?_
  refine r_icmp_ne (tgt := 35) h dX10_readPart_12 (by decide) (fun c4 => ?_) (fun c4 => ?_)
  · have hf := ite_f c4 hf
    refine r_aload_n h 0 dX10_readPart_35 rfl rfl ?_
    refine r_ldcS h (i := 0) (by decide) (List.mem_of_getElem? (i := 47) rfl) dX10_readPart_36 (fun w5 kw5 => ?_)
    have hf := hf w5 kw5
    refine c1772 hl h dX10_readPart_38 k3 hf (Nat.le_of_ble_eq_true rfl) (by decide) (by decide) (fun x7 M6 hf => ?_)
    refine r_if_eq (tgt := 48) h dX10_readPart_41 (by decide) (fun c8 => ?_) (fun c8 => ?_)
    · have hf := ite_t c8 hf
      refine r_aload_n h 0 dX10_readPart_48 rfl rfl ?_
      refine r_ldcS h (i := 1) (by decide) (List.mem_of_getElem? (i := 48) rfl) dX10_readPart_49 (fun w9 kw9 => ?_)
      have hf := hf w9 kw9
      obtain ⟨k10, hf⟩ := hf
      refine c1772 hl h dX10_readPart_51 k10 hf (Nat.le_of_ble_eq_true rfl) (by decide) (by decide) (fun x12 M11 hf => ?_)
      refine r_if_eq (tgt := 61) h dX10_readPart_54 (by decide) (fun c13 => ?_) (fun c13 => ?_)
      · have hf := ite_t c13 hf
        refine r_aload_n h 0 dX10_readPart_61 rfl rfl ?_
        refine r_ldcS h (i := 2) (by decide) (List.mem_of_getElem? (i := 49) rfl) dX10_readPart_62 (fun w14 kw14 => ?_)
        have hf := hf w14 kw14
        obtain ⟨k15, hf⟩ := hf
        refine c1772 hl h dX10_readPart_64 k15 hf (Nat.le_of_ble_eq_true rfl) (by decide) (by decide) (fun x17 M16 hf => ?_)
        refine r_if_eq (tgt := 74) h dX10_readPart_67 (by decide) (fun c18 => ?_) (fun c18 => ?_)
        · have hf := ite_t c18 hf
          refine r_aload_n h 0 dX10_readPart_74 rfl rfl ?_
          refine r_ldcS h (i := 3) (by decide) (List.mem_of_getElem? (i := 50) rfl) dX10_readPart_75 (fun w19 kw19 => ?_)
          have hf := hf w19 kw19
          obtain ⟨k20, hf⟩ := hf
          refine c1772 hl h dX10_readPart_77 k20 hf (Nat.le_of_ble_eq_true rfl) (by decide) (by decide) (fun x22 M21 hf => ?_)
          refine r_if_eq (tgt := 87) h dX10_readPart_80 (by decide) (fun c23 => ?_) (fun c23 => ?_)
          · have hf := ite_t c23 hf
            refine r_aload_n h 0 dX10_readPart_87 rfl rfl ?_
            refine r_ldcS h (i := 4) (by decide) (List.mem_of_getElem? (i := 51) rfl) dX10_readPart_88 (fun w24 kw24 => ?_)
            have hf := hf w24 kw24
            obtain ⟨k25, hf⟩ := hf
            refine c1772 hl h dX10_readPart_90 k25 hf (Nat.le_of_ble_eq_true rfl) (by decide) (by decide) (fun x27 M26 hf => ?_)
            refine r_if_eq (tgt := 100) h dX10_readPart_93 (by decide) (fun c28 => ?_) (fun c28 => ?_)
            · have hf := ite_t c28 hf
              refine r_aload_n h 0 dX10_readPart_100 rfl rfl ?_
              refine r_ldcS h (i := 5) (by decide) (List.mem_of_getElem? (i := 34) rfl) dX10_readPart_101 (fun w29 kw29 => ?_)
              have hf := hf w29 kw29
              obtain ⟨k30, hf⟩ := hf
              refine c1772 hl h dX10_readPart_103 k30 hf (Nat.le_of_ble_eq_true rfl) (by decide) (by decide) (fun x32 M31 hf => ?_)
              refine r_if_eq (tgt := 113) h dX10_readPart_106 (by decide) (fun c33 => ?_) (fun c33 => ?_)
              · have hf := ite_t c33 hf
                refine r_aload_n h 0 dX10_readPart_113 rfl rfl ?_
                refine r_ldcS h (i := 6) (by decide) (List.mem_of_getElem? (i := 52) rfl) dX10_readPart_114 (fun w34 kw34 => ?_)
                have hf := hf w34 kw34
                obtain ⟨k35, hf⟩ := hf
                refine c1772 hl h dX10_readPart_116 k35 hf (Nat.le_of_ble_eq_true rfl) (by decide) (by decide) (fun x37 M36 hf => ?_)
                refine r_if_eq (tgt := 127) h dX10_readPart_119 (by decide) (fun c38 => ?_) (fun c38 => ?_)
                · have hf := ite_t c38 hf
                  refine r_aload_n h 0 dX10_readPart_127 rfl rfl ?_
                  refine r_ldcS h (i := 7) (by decide) (List.mem_of_getElem? (i := 53) rfl) dX10_readPart_128 (fun w39 kw39 => ?_)
                  have hf := hf w39 kw39
                  obtain ⟨k40, hf⟩ := hf
                  refine c1772 hl h dX10_readPart_130 k40 hf (Nat.le_of_ble_eq_true rfl) (by decide) (by decide) (fun x42 M41 hf => ?_)
                  refine r_if_eq (tgt := 141) h dX10_readPart_133 (by decide) (fun c43 => ?_) (fun c43 => ?_)
                  · have hf := ite_t c43 hf
                    refine r_iconst (v := (-1)) h dX10_readPart_141 (by decide) ?_
                    refine r_istore_n (lv' := [(1, .int (-1)), (0, .ref a0)]) h dX10_readPart_142 rfl (by decide) rfl ?_
                    refine r_aload_n h 1 dX10_readPart_143 rfl rfl ?_
                    refine r_iload_n h 0 dX10_readPart_144 rfl rfl ?_
                    refine r_iconst (v := 0) h dX10_readPart_145 (by decide) ?_
                    obtain ⟨k44, hf⟩ := hf
                    refine c1906 hl h dX10_readPart_146 k44 hf (Nat.le_of_ble_eq_true rfl) (by decide) (by decide) (fun M45 hf => ?_)
                    exact V.sub [0] rfl hf
                  · have hf := ite_f c43 hf
                    refine r_bipush (v := 7) h dX10_readPart_136 (by decide) ?_
                    refine r_goto (tgt := 142) h dX10_readPart_138 (by decide) ?_
                    refine r_istore_n (lv' := [(1, .int 7), (0, .ref a0)]) h dX10_readPart_142 rfl (by decide) rfl ?_
                    refine r_aload_n h 1 dX10_readPart_143 rfl rfl ?_
                    refine r_iload_n h 0 dX10_readPart_144 rfl rfl ?_
                    refine r_iconst (v := 0) h dX10_readPart_145 (by decide) ?_
                    obtain ⟨k46, hf⟩ := hf
                    refine c1906 hl h dX10_readPart_146 k46 hf (Nat.le_of_ble_eq_true rfl) (by decide) (by decide) (fun M47 hf => ?_)
                    exact V.sub [0] rfl hf
                · have hf := ite_f c38 hf
                  refine r_bipush (v := 6) h dX10_readPart_122 (by decide) ?_
                  refine r_goto (tgt := 142) h dX10_readPart_124 (by decide) ?_
                  refine r_istore_n (lv' := [(1, .int 6), (0, .ref a0)]) h dX10_readPart_142 rfl (by decide) rfl ?_
                  refine r_aload_n h 1 dX10_readPart_143 rfl rfl ?_
                  refine r_iload_n h 0 dX10_readPart_144 rfl rfl ?_
                  refine r_iconst (v := 0) h dX10_readPart_145 (by decide) ?_
                  obtain ⟨k48, hf⟩ := hf
                  refine c1906 hl h dX10_readPart_146 k48 hf (Nat.le_of_ble_eq_true rfl) (by decide) (by decide) (fun M49 hf => ?_)
                  exact V.sub [0] rfl hf
              · have hf := ite_f c33 hf
                refine r_iconst (v := 5) h dX10_readPart_109 (by decide) ?_
                refine r_goto (tgt := 142) h dX10_readPart_110 (by decide) ?_
                refine r_istore_n (lv' := [(1, .int 5), (0, .ref a0)]) h dX10_readPart_142 rfl (by decide) rfl ?_
                refine r_aload_n h 1 dX10_readPart_143 rfl rfl ?_
                refine r_iload_n h 0 dX10_readPart_144 rfl rfl ?_
                refine r_iconst (v := 0) h dX10_readPart_145 (by decide) ?_
                obtain ⟨k50, hf⟩ := hf
                refine c1906 hl h dX10_readPart_146 k50 hf (Nat.le_of_ble_eq_true rfl) (by decide) (by decide) (fun M51 hf => ?_)
                exact V.sub [0] rfl hf
            · have hf := ite_f c28 hf
              refine r_iconst (v := 4) h dX10_readPart_96 (by decide) ?_
              refine r_goto (tgt := 142) h dX10_readPart_97 (by decide) ?_
              refine r_istore_n (lv' := [(1, .int 4), (0, .ref a0)]) h dX10_readPart_142 rfl (by decide) rfl ?_
              refine r_aload_n h 1 dX10_readPart_143 rfl rfl ?_
              refine r_iload_n h 0 dX10_readPart_144 rfl rfl ?_
              refine r_iconst (v := 0) h dX10_readPart_145 (by decide) ?_
              obtain ⟨k52, hf⟩ := hf
              refine c1906 hl h dX10_readPart_146 k52 hf (Nat.le_of_ble_eq_true rfl) (by decide) (by decide) (fun M53 hf => ?_)
              exact V.sub [0] rfl hf
          · have hf := ite_f c23 hf
            refine r_iconst (v := 3) h dX10_readPart_83 (by decide) ?_
            refine r_goto (tgt := 142) h dX10_readPart_84 (by decide) ?_
            refine r_istore_n (lv' := [(1, .int 3), (0, .ref a0)]) h dX10_readPart_142 rfl (by decide) rfl ?_
            refine r_aload_n h 1 dX10_readPart_143 rfl rfl ?_
            refine r_iload_n h 0 dX10_readPart_144 rfl rfl ?_
            refine r_iconst (v := 0) h dX10_readPart_145 (by decide) ?_
            obtain ⟨k54, hf⟩ := hf
            refine c1906 hl h dX10_readPart_146 k54 hf (Nat.le_of_ble_eq_true rfl) (by decide) (by decide) (fun M55 hf => ?_)
            exact V.sub [0] rfl hf
        · have hf := ite_f c18 hf
          refine r_iconst (v := 2) h dX10_readPart_70 (by decide) ?_
          refine r_goto (tgt := 142) h dX10_readPart_71 (by decide) ?_
          refine r_istore_n (lv' := [(1, .int 2), (0, .ref a0)]) h dX10_readPart_142 rfl (by decide) rfl ?_
          refine r_aload_n h 1 dX10_readPart_143 rfl rfl ?_
          refine r_iload_n h 0 dX10_readPart_144 rfl rfl ?_
          refine r_iconst (v := 0) h dX10_readPart_145 (by decide) ?_
          obtain ⟨k56, hf⟩ := hf
          refine c1906 hl h dX10_readPart_146 k56 hf (Nat.le_of_ble_eq_true rfl) (by decide) (by decide) (fun M57 hf => ?_)
          exact V.sub [0] rfl hf
      · have hf := ite_f c13 hf
        refine r_iconst (v := 1) h dX10_readPart_57 (by decide) ?_
        refine r_goto (tgt := 142) h dX10_readPart_58 (by decide) ?_
        refine r_istore_n (lv' := [(1, .int 1), (0, .ref a0)]) h dX10_readPart_142 rfl (by decide) rfl ?_
        refine r_aload_n h 1 dX10_readPart_143 rfl rfl ?_
        refine r_iload_n h 0 dX10_readPart_144 rfl rfl ?_
        refine r_iconst (v := 0) h dX10_readPart_145 (by decide) ?_
        obtain ⟨k58, hf⟩ := hf
        refine c1906 hl h dX10_readPart_146 k58 hf (Nat.le_of_ble_eq_true rfl) (by decide) (by decide) (fun M59 hf => ?_)
        exact V.sub [0] rfl hf
    · have hf := ite_f c8 hf
      refine r_iconst (v := 0) h dX10_readPart_44 (by decide) ?_
      refine r_goto (tgt := 142) h dX10_readPart_45 (by decide) ?_
      refine r_istore_n (lv' := [(1, .int 0), (0, .ref a0)]) h dX10_readPart_142 rfl (by decide) rfl ?_
      refine r_aload_n h 1 dX10_readPart_143 rfl rfl ?_
      refine r_iload_n h 0 dX10_readPart_144 rfl rfl ?_
      refine r_iconst (v := 0) h dX10_readPart_145 (by decide) ?_
      obtain ⟨k60, hf⟩ := hf
      refine c1906 hl h dX10_readPart_146 k60 hf (Nat.le_of_ble_eq_true rfl) (by decide) (by decide) (fun M61 hf => ?_)
      exact V.sub [0] rfl hf
  · have hf := ite_t c4 hf
    refine r_aload_n h 0 dX10_readPart_15 rfl rfl ?_
    refine r_iconst (v := 0) h dX10_readPart_16 (by decide) ?_
    refine r_sipush (v := 999) h dX10_readPart_17 (by decide) ?_
    refine r_iconst (v := 3) h dX10_readPart_20 (by decide) ?_
    refine c1798 hl h dX10_readPart_21 k3 hf (Nat.le_of_ble_eq_true rfl) (by decide) (by decide) (fun x63 M62 hf => ?_)
    refine r_istore_n (lv' := [(1, .int x63), (0, .ref a0)]) h dX10_readPart_24 rfl (by decide) rfl ?_
    refine r_aload_n h 1 dX10_readPart_25 rfl rfl ?_
    refine r_bipush (v := 10) h dX10_readPart_26 (by decide) ?_
    refine r_iload_n h 0 dX10_readPart_28 rfl rfl ?_
    obtain ⟨k64, hf⟩ := hf
    refine c1906 hl h dX10_readPart_29 k64 hf (Nat.le_of_ble_eq_true rfl) (by decide) (by decide) (fun M65 hf => ?_)
    refine r_goto (tgt := 149) h dX10_readPart_32 (by decide) ?_
    exact V.sub [0] rfl hf
theorem c1916 {l : Launch} {G : gG} {X : gX} {cc : ByteArray} {nL F L bc bs pc : Nat} {M : gM} {lv : List (Nat × Value)} {rest : List Value} {a0 : Nat} {K : Int32 → gM → Prop} (hl : l.stackTraces = false) (h : hX l G X cc nL "GlacierMailModel" F L) (d : decode cc pc = .ok (.invokevirtual 245, 3)) (hk : kd M a0 = some (.inl 10)) (hf : f_X10_readPart a0 M K) (hst : (rest.map fun v => v.category).sum ≤ 8) (hF : 6 ≤ F) (hL : 129 ≤ L) (kk : ∀ x M1, K x M1 → V l G X bc bs M1 (pc + 3) lv (.int x :: rest)) : V l G X bc bs M pc lv (.ref a0 :: rest) := r_callV (n := 0) (As := []) h (m_X10_readPart hl hf) 10 rfl hk rfl ⟨by decide, by decide, by decide +kernel⟩ d q1916 q1918 qs90 q147 q1919 rfl rfl hst hF hL (Nat.zero_le _) (Nat.zero_le _) (kI_go kk) kN_go
def f_X10_readSum (a0 : Nat) (M : gM) (K : Int32 → gM → Prop) : Prop :=
  ∀ P9 : Nat → gM → Prop,
  (∀ (v0 : Nat) (M : gM), (kd M v0 = some (.inl 10) ∧ f_X10_sign v0 43 M (fun x7 M6 => if x7 = 0 then K 1 M6 else kd M6 v0 = some (.inl 10) ∧ f_X10_readPart v0 M6 (fun x11 M10 => if x11 = 0 then K 0 M10 else kd M10 v0 = some (.inl 10) ∧ f_X10_emits v0 11 0 M10 (fun M14 => P9 v0 M14)))) → P9 v0 M) →
  kd M a0 = some (.inl 10) ∧ f_X10_readPart a0 M (fun x3 M2 => if x3 = 0 then K 0 M2 else P9 a0 M2)
set_option maxHeartbeats 4000000 in
theorem m_X10_readSum {l : Launch} (hl : l.stackTraces = false) {G : gG} {a0 : Nat} {M : gM} {K : Int32 → gM → Prop} (hf : f_X10_readSum a0 M K) : gMet l G yX10_readSum (ws_ yX10_readSum cX10_readSum 1 (some Jvm.ClassFile.FieldType.boolean)) ({ frames := 6, cells := 0, slots := 0, locals := 129 }) M [.ref a0] (kI K) kN := by
  refine gm_of hl (ret := (some Jvm.ClassFile.FieldType.boolean)) rfl (Nat.le_of_ble_eq_true rfl) (fun X h hq => ?_)
  have h : hX l G X cX10_readSum 1 "GlacierMailModel" 6 129 := h
  have hf := hf
  show V l G X 0 0 M 0 [(0, .ref a0)] []
  have hf := hf
    (fun v0 M => V l G X 0 0 M 9 [(0, .ref v0)] [])
    (by
      intro v0 M hf
      show V l G X 0 0 M 9 [(0, .ref v0)] []
      refine r_aload_n h 0 dX10_readSum_9 rfl rfl ?_
      refine r_bipush (v := 43) h dX10_readSum_10 (by decide) ?_
      obtain ⟨k5, hf⟩ := hf
      refine c1901 hl h dX10_readSum_12 k5 hf (Nat.le_of_ble_eq_true rfl) (by decide) (by decide) (fun x7 M6 hf => ?_)
      refine r_if_eq (tgt := 37) h dX10_readSum_15 (by decide) (fun c8 => ?_) (fun c8 => ?_)
      · have hf := ite_t c8 hf
        refine r_iconst (v := 1) h dX10_readSum_37 (by decide) ?_
        exact r_zreturn h hq dX10_readSum_38 (by decide) ⟨_, rfl, hf⟩
      · have hf := ite_f c8 hf
        refine r_aload_n h 0 dX10_readSum_18 rfl rfl ?_
        obtain ⟨k9, hf⟩ := hf
        refine c1916 hl h dX10_readSum_19 k9 hf (Nat.le_of_ble_eq_true rfl) (by decide) (by decide) (fun x11 M10 hf => ?_)
        refine r_if_ne (tgt := 27) h dX10_readSum_22 (by decide) (fun c12 => ?_) (fun c12 => ?_)
        · have hf := ite_f c12 hf
          refine r_aload_n h 0 dX10_readSum_27 rfl rfl ?_
          refine r_bipush (v := 11) h dX10_readSum_28 (by decide) ?_
          refine r_iconst (v := 0) h dX10_readSum_30 (by decide) ?_
          obtain ⟨k13, hf⟩ := hf
          refine c1906 hl h dX10_readSum_31 k13 hf (Nat.le_of_ble_eq_true rfl) (by decide) (by decide) (fun M14 hf => ?_)
          refine r_goto (tgt := 9) h dX10_readSum_34 (by decide) ?_
          exact V.sub [0] rfl hf
        · have hf := ite_t c12 hf
          refine r_iconst (v := 0) h dX10_readSum_25 (by decide) ?_
          exact r_zreturn h hq dX10_readSum_26 (by decide) ⟨_, rfl, hf⟩)
  refine r_aload_n h 0 dX10_readSum_0 rfl rfl ?_
  obtain ⟨k1, hf⟩ := hf
  refine c1916 hl h dX10_readSum_1 k1 hf (Nat.le_of_ble_eq_true rfl) (by decide) (by decide) (fun x3 M2 hf => ?_)
  refine r_if_ne (tgt := 9) h dX10_readSum_4 (by decide) (fun c4 => ?_) (fun c4 => ?_)
  · have hf := ite_f c4 hf
    exact V.sub [0] rfl hf
  · have hf := ite_t c4 hf
    refine r_iconst (v := 0) h dX10_readSum_7 (by decide) ?_
    exact r_zreturn h hq dX10_readSum_8 (by decide) ⟨_, rfl, hf⟩
theorem c1912 {l : Launch} {G : gG} {X : gX} {cc : ByteArray} {nL F L bc bs pc : Nat} {M : gM} {lv : List (Nat × Value)} {rest : List Value} {a0 : Nat} {K : Int32 → gM → Prop} (hl : l.stackTraces = false) (h : hX l G X cc nL "GlacierMailModel" F L) (d : decode cc pc = .ok (.invokevirtual 265, 3)) (hk : kd M a0 = some (.inl 10)) (hf : f_X10_readSum a0 M K) (hst : (rest.map fun v => v.category).sum ≤ 8) (hF : 7 ≤ F) (hL : 149 ≤ L) (kk : ∀ x M1, K x M1 → V l G X bc bs M1 (pc + 3) lv (.int x :: rest)) : V l G X bc bs M pc lv (.ref a0 :: rest) := r_callV (n := 0) (As := []) h (m_X10_readSum hl hf) 10 rfl hk rfl ⟨by decide, by decide, by decide +kernel⟩ d q1912 q1914 qs89 q147 q1915 rfl rfl hst hF hL (Nat.zero_le _) (Nat.zero_le _) (kI_go kk) kN_go
theorem cm1897 {l : Launch} {G : gG} {X : gX} {cc : ByteArray} {nL F L bc bs pc : Nat} {M : gM} {lv : List (Nat × Value)} {rest : List Value} {a0 : Nat} {fr lo : Nat} {K : Int32 → gM → Prop} (h : hX l G X cc nL "GlacierMailModel" F L) (d : decode cc pc = .ok (.invokevirtual 258, 3)) (hk : kd M a0 = some (.inl 10)) (hM : gMet l G yX10_readAtom (ws_ yX10_readAtom cX10_readAtom 3 (some Jvm.ClassFile.FieldType.boolean)) ({ frames := fr, cells := 0, slots := 0, locals := lo }) M [.ref a0] (kI K) kN) (hst : (rest.map fun v => v.category).sum ≤ 8) (hF : fr + 1 ≤ F) (hL : 22 + lo ≤ L) (kk : ∀ x M1, K x M1 → V l G X bc bs M1 (pc + 3) lv (.int x :: rest)) : V l G X bc bs M pc lv (.ref a0 :: rest) := r_callV (n := 0) (As := []) h hM 10 rfl hk rfl ⟨by decide, by decide, by decide +kernel⟩ d q1897 q1899 qs86 q147 q1900 rfl rfl hst hF hL (Nat.zero_le _) (Nat.zero_le _) (kI_go kk) kN_go
theorem cm1893 {l : Launch} {G : gG} {X : gX} {cc : ByteArray} {nL F L bc bs pc : Nat} {M : gM} {lv : List (Nat × Value)} {rest : List Value} {a0 : Nat} {fr lo : Nat} {K : Int32 → gM → Prop} (h : hX l G X cc nL "GlacierMailModel" F L) (d : decode cc pc = .ok (.invokevirtual 270, 3)) (hk : kd M a0 = some (.inl 10)) (hM : gMet l G yX10_readAllOf (ws_ yX10_readAllOf cX10_readAllOf 1 (some Jvm.ClassFile.FieldType.boolean)) ({ frames := fr, cells := 0, slots := 0, locals := lo }) M [.ref a0] (kI K) kN) (hst : (rest.map fun v => v.category).sum ≤ 8) (hF : fr + 1 ≤ F) (hL : 20 + lo ≤ L) (kk : ∀ x M1, K x M1 → V l G X bc bs M1 (pc + 3) lv (.int x :: rest)) : V l G X bc bs M pc lv (.ref a0 :: rest) := r_callV (n := 0) (As := []) h hM 10 rfl hk rfl ⟨by decide, by decide, by decide +kernel⟩ d q1893 q1895 qs85 q147 q1896 rfl rfl hst hF hL (Nat.zero_le _) (Nat.zero_le _) (kI_go kk) kN_go
theorem cm1889 {l : Launch} {G : gG} {X : gX} {cc : ByteArray} {nL F L bc bs pc : Nat} {M : gM} {lv : List (Nat × Value)} {rest : List Value} {a0 : Nat} {fr lo : Nat} {K : Int32 → gM → Prop} (h : hX l G X cc nL "GlacierMailModel" F L) (d : decode cc pc = .ok (.invokevirtual 253, 3)) (hk : kd M a0 = some (.inl 10)) (hM : gMet l G yX10_readCond (ws_ yX10_readCond cX10_readCond 1 (some Jvm.ClassFile.FieldType.boolean)) ({ frames := fr, cells := 0, slots := 0, locals := lo }) M [.ref a0] (kI K) kN) (hst : (rest.map fun v => v.category).sum ≤ 8) (hF : fr + 1 ≤ F) (hL : 20 + lo ≤ L) (kk : ∀ x M1, K x M1 → V l G X bc bs M1 (pc + 3) lv (.int x :: rest)) : V l G X bc bs M pc lv (.ref a0 :: rest) := r_callV (n := 0) (As := []) h hM 10 rfl hk rfl ⟨by decide, by decide, by decide +kernel⟩ d q1889 q1891 qs84 q147 q1892 rfl rfl hst hF hL (Nat.zero_le _) (Nat.zero_le _) (kI_go kk) kN_go
def f_X10_readAtom (fA : Nat → gM → (Int32 → gM → Prop) → Prop) (fC : Nat → gM → (Int32 → gM → Prop) → Prop) (a0 : Nat) (M : gM) (K : Int32 → gM → Prop) : Prop :=
  ∀ P137 : Nat → Int32 → gM → Prop,
  ∀ P184 : Nat → Int32 → gM → Prop,
  (∀ (v0 : Nat) (v1 : Int32) (M : gM), (if v1 = 0 then kd M v0 = some (.inl 10) ∧ f_X10_emits v0 9 0 M (fun M57 => K 1 M57) else kd M v0 = some (.inl 10) ∧ f_X10_emits v0 8 0 M (fun M59 => K 1 M59)) → P137 v0 v1 M) →
  (∀ (v0 : Nat) (v2 : Int32) (M : gM), (kd M v0 = some (.inl 10) ∧ f_X10_readSum v0 M (fun x62 M61 => if x62 = 0 then K 0 M61 else if v2 = 0 then kd M61 v0 = some (.inl 10) ∧ f_X10_emits v0 13 0 M61 (fun M66 => K 1 M66) else kd M61 v0 = some (.inl 10) ∧ f_X10_emits v0 12 0 M61 (fun M68 => K 1 M68))) → P184 v0 v2 M) →
  kd M a0 = some (.inl 10) ∧ f_X10_sign a0 40 M (fun x3 M2 => if x3 = 0 then ∀ w5, kd M2 w5 = some (.inr (10, 25)) → kd M2 a0 = some (.inl 10) ∧ f_X10_isNext a0 w5 M2 (fun x8 M7 => if x8 = 0 then ∀ w10, kd M7 w10 = some (.inr (10, 8)) → kd M7 a0 = some (.inl 10) ∧ f_X10_isNext a0 w10 M7 (fun x13 M12 => if x13 = 0 then ∀ w15, kd M12 w15 = some (.inr (10, 9)) → kd M12 a0 = some (.inl 10) ∧ f_X10_isNext a0 w15 M12 (fun x18 M17 => if x18 = 0 then kd M17 a0 = some (.inl 10) ∧ f_X10_readSum a0 M17 (fun x22 M21 => if x22 = 0 then K 0 M21 else kd M21 a0 = some (.inl 10) ∧ f_X10_sign a0 60 M21 (fun x26 M25 => if x26 = 0 then kd M25 a0 = some (.inl 10) ∧ f_X10_sign a0 62 M25 (fun x30 M29 => if x30 = 0 then K 0 M29 else P184 a0 x26 M29) else P184 a0 x26 M25)) else P137 a0 x13 M17) else P137 a0 x13 M12) else kd M7 a0 = some (.inl 10) ∧ if (iv M7 a0 12) = 6 then K 0 M7 else ∀ M34, M34 = sI M7 a0 12 ((iv M7 a0 12) + 1) → kd M34 a0 = some (.inl 10) ∧ fA a0 M34 (fun x37 M36 => if x37 = 0 then K 0 M36 else kd M36 a0 = some (.inl 10) ∧ ∀ M40, M40 = sI M36 a0 12 ((iv M36 a0 12) - 1) → kd M40 a0 = some (.inl 10) ∧ f_X10_emits a0 14 0 M40 (fun M42 => K 1 M42))) else kd M2 a0 = some (.inl 10) ∧ if (iv M2 a0 12) = 6 then K 0 M2 else ∀ M45, M45 = sI M2 a0 12 ((iv M2 a0 12) + 1) → kd M45 a0 = some (.inl 10) ∧ fC a0 M45 (fun x48 M47 => if x48 = 0 then K 0 M47 else kd M47 a0 = some (.inl 10) ∧ ∀ M51, M51 = sI M47 a0 12 ((iv M47 a0 12) - 1) → kd M51 a0 = some (.inl 10) ∧ f_X10_sign a0 41 M51 (fun x54 M53 => (x54 = 0 ∨ x54 = 1) ∧ K x54 M53)))
set_option maxHeartbeats 4000000 in
theorem m_X10_readAtom {l : Launch} (hl : l.stackTraces = false) {G : gG}  {fA : Nat → gM → (Int32 → gM → Prop) → Prop} {fC : Nat → gM → (Int32 → gM → Prop) → Prop}{a0 : Nat} {M : gM} {K : Int32 → gM → Prop} {FR LO fr1 lo1 : Nat} (IH_X10_readAtom : ∀ {a0 : Nat} {M : gM} {K : Int32 → gM → Prop}, fA a0 M K → gMet l G yX10_readAtom (ws_ yX10_readAtom cX10_readAtom 3 (some Jvm.ClassFile.FieldType.boolean)) ({ frames := fr1, cells := 0, slots := 0, locals := lo1 }) M [.ref a0] (kI K) kN) (IH_X10_readCond : ∀ {a0 : Nat} {M : gM} {K : Int32 → gM → Prop}, fC a0 M K → gMet l G yX10_readCond (ws_ yX10_readCond cX10_readCond 1 (some Jvm.ClassFile.FieldType.boolean)) ({ frames := fr1, cells := 0, slots := 0, locals := lo1 }) M [.ref a0] (kI K) kN) (hF0 : 7 ≤ FR) (hL0 : 149 ≤ LO) (hF1 : fr1 + 1 ≤ FR) (hL1 : 22 + lo1 ≤ LO) (hf : f_X10_readAtom fA fC a0 M K) : gMet l G yX10_readAtom (ws_ yX10_readAtom cX10_readAtom 3 (some Jvm.ClassFile.FieldType.boolean)) ({ frames := FR, cells := 0, slots := 0, locals := LO }) M [.ref a0] (kI K) kN := by
  refine gm_of hl (ret := (some Jvm.ClassFile.FieldType.boolean)) rfl (Nat.le_of_ble_eq_true rfl) (fun X h hq => ?_)
  have h : hX l G X cX10_readAtom 3 "GlacierMailModel" FR LO := h
  have hf := hf
  show V l G X 0 0 M 0 [(0, .ref a0)] []
  have hf := hf
    (fun v0 v1 M => V l G X 0 0 M 137 [(0, .ref v0), (1, .int v1)] [])
    (fun v0 v2 M => V l G X 0 0 M 184 [(0, .ref v0), (2, .int v2)] [])
    (by
      intro v0 v1 M hf
      show V l G X 0 0 M 137 [(0, .ref v0), (1, .int v1)] []
      refine r_aload_n h 0 dX10_readAtom_137 rfl rfl ?_
      refine r_iload_n h 1 dX10_readAtom_138 rfl rfl ?_
      refine r_if_eq (tgt := 147) h dX10_readAtom_139 (by decide) (fun c55 => ?_) (fun c55 => ?_)
      · have hf := ite_t c55 hf
        refine r_bipush (v := 9) h dX10_readAtom_147 (by decide) ?_
        refine r_iconst (v := 0) h dX10_readAtom_149 (by decide) ?_
        obtain ⟨k56, hf⟩ := hf
        refine c1906 hl h dX10_readAtom_150 k56 hf (Nat.le_of_ble_eq_true rfl) (by omega) (by omega) (fun M57 hf => ?_)
        refine r_iconst (v := 1) h dX10_readAtom_153 (by decide) ?_
        exact r_zreturn h hq dX10_readAtom_154 (by decide) ⟨_, rfl, hf⟩
      · have hf := ite_f c55 hf
        refine r_bipush (v := 8) h dX10_readAtom_142 (by decide) ?_
        refine r_goto (tgt := 149) h dX10_readAtom_144 (by decide) ?_
        refine r_iconst (v := 0) h dX10_readAtom_149 (by decide) ?_
        obtain ⟨k58, hf⟩ := hf
        refine c1906 hl h dX10_readAtom_150 k58 hf (Nat.le_of_ble_eq_true rfl) (by omega) (by omega) (fun M59 hf => ?_)
        refine r_iconst (v := 1) h dX10_readAtom_153 (by decide) ?_
        exact r_zreturn h hq dX10_readAtom_154 (by decide) ⟨_, rfl, hf⟩)
    (by
      intro v0 v2 M hf
      show V l G X 0 0 M 184 [(0, .ref v0), (2, .int v2)] []
      refine r_aload_n h 0 dX10_readAtom_184 rfl rfl ?_
      obtain ⟨k60, hf⟩ := hf
      refine c1912 hl h dX10_readAtom_185 k60 hf (Nat.le_of_ble_eq_true rfl) (by omega) (by omega) (fun x62 M61 hf => ?_)
      refine r_if_ne (tgt := 193) h dX10_readAtom_188 (by decide) (fun c63 => ?_) (fun c63 => ?_)
      · have hf := ite_f c63 hf
        refine r_aload_n h 0 dX10_readAtom_193 rfl rfl ?_
        refine r_iload_n h 1 dX10_readAtom_194 rfl rfl ?_
        refine r_if_eq (tgt := 203) h dX10_readAtom_195 (by decide) (fun c64 => ?_) (fun c64 => ?_)
        · have hf := ite_t c64 hf
          refine r_bipush (v := 13) h dX10_readAtom_203 (by decide) ?_
          refine r_iconst (v := 0) h dX10_readAtom_205 (by decide) ?_
          obtain ⟨k65, hf⟩ := hf
          refine c1906 hl h dX10_readAtom_206 k65 hf (Nat.le_of_ble_eq_true rfl) (by omega) (by omega) (fun M66 hf => ?_)
          refine r_iconst (v := 1) h dX10_readAtom_209 (by decide) ?_
          exact r_zreturn h hq dX10_readAtom_210 (by decide) ⟨_, rfl, hf⟩
        · have hf := ite_f c64 hf
          refine r_bipush (v := 12) h dX10_readAtom_198 (by decide) ?_
          refine r_goto (tgt := 205) h dX10_readAtom_200 (by decide) ?_
          refine r_iconst (v := 0) h dX10_readAtom_205 (by decide) ?_
          obtain ⟨k67, hf⟩ := hf
          refine c1906 hl h dX10_readAtom_206 k67 hf (Nat.le_of_ble_eq_true rfl) (by omega) (by omega) (fun M68 hf => ?_)
          refine r_iconst (v := 1) h dX10_readAtom_209 (by decide) ?_
          exact r_zreturn h hq dX10_readAtom_210 (by decide) ⟨_, rfl, hf⟩
      · have hf := ite_t c63 hf
        refine r_iconst (v := 0) h dX10_readAtom_191 (by decide) ?_
        exact r_zreturn h hq dX10_readAtom_192 (by decide) ⟨_, rfl, hf⟩)
  refine r_aload_n h 0 dX10_readAtom_0 rfl rfl ?_
  refine r_bipush (v := 40) h dX10_readAtom_1 (by decide) ?_
  obtain ⟨k1, hf⟩ := hf
  refine c1901 hl h dX10_readAtom_3 k1 hf (Nat.le_of_ble_eq_true rfl) (by omega) (by omega) (fun x3 M2 hf => ?_)
  refine r_if_eq (tgt := 56) h dX10_readAtom_6 (by decide) (fun c4 => ?_) (fun c4 => ?_)
  · have hf := ite_t c4 hf
    refine r_aload_n h 0 dX10_readAtom_56 rfl rfl ?_
    refine r_ldcwS h (i := 25) (by decide) (List.mem_of_getElem? (i := 44) rfl) dX10_readAtom_57 (fun w5 kw5 => ?_)
    have hf := hf w5 kw5
    obtain ⟨k6, hf⟩ := hf
    refine c1857 hl h dX10_readAtom_60 k6 hf (Nat.le_of_ble_eq_true rfl) (by omega) (by omega) (fun x8 M7 hf => ?_)
    refine r_if_eq (tgt := 115) h dX10_readAtom_63 (by decide) (fun c9 => ?_) (fun c9 => ?_)
    · have hf := ite_t c9 hf
      refine r_aload_n h 0 dX10_readAtom_115 rfl rfl ?_
      refine r_ldcwS h (i := 8) (by decide) (List.mem_of_getElem? (i := 45) rfl) dX10_readAtom_116 (fun w10 kw10 => ?_)
      have hf := hf w10 kw10
      obtain ⟨k11, hf⟩ := hf
      refine c1857 hl h dX10_readAtom_119 k11 hf (Nat.le_of_ble_eq_true rfl) (by omega) (by omega) (fun x13 M12 hf => ?_)
      refine r_istore_n (lv' := [(1, .int x13), (0, .ref a0)]) h dX10_readAtom_122 rfl (by decide) rfl ?_
      refine r_iload_n h 0 dX10_readAtom_123 rfl rfl ?_
      refine r_if_ne (tgt := 137) h dX10_readAtom_124 (by decide) (fun c14 => ?_) (fun c14 => ?_)
      · have hf := ite_f c14 hf
        exact V.sub [1, 0] rfl hf
      · have hf := ite_t c14 hf
        refine r_aload_n h 1 dX10_readAtom_127 rfl rfl ?_
        refine r_ldcwS h (i := 9) (by decide) (List.mem_of_getElem? (i := 46) rfl) dX10_readAtom_128 (fun w15 kw15 => ?_)
        have hf := hf w15 kw15
        obtain ⟨k16, hf⟩ := hf
        refine c1857 hl h dX10_readAtom_131 k16 hf (Nat.le_of_ble_eq_true rfl) (by omega) (by omega) (fun x18 M17 hf => ?_)
        refine r_if_eq (tgt := 155) h dX10_readAtom_134 (by decide) (fun c19 => ?_) (fun c19 => ?_)
        · have hf := ite_t c19 hf
          refine r_aload_n h 1 dX10_readAtom_155 rfl rfl ?_
          obtain ⟨k20, hf⟩ := hf
          refine c1912 hl h dX10_readAtom_156 k20 hf (Nat.le_of_ble_eq_true rfl) (by omega) (by omega) (fun x22 M21 hf => ?_)
          refine r_if_ne (tgt := 164) h dX10_readAtom_159 (by decide) (fun c23 => ?_) (fun c23 => ?_)
          · have hf := ite_f c23 hf
            refine r_aload_n h 1 dX10_readAtom_164 rfl rfl ?_
            refine r_bipush (v := 60) h dX10_readAtom_165 (by decide) ?_
            obtain ⟨k24, hf⟩ := hf
            refine c1901 hl h dX10_readAtom_167 k24 hf (Nat.le_of_ble_eq_true rfl) (by omega) (by omega) (fun x26 M25 hf => ?_)
            refine r_istore_n (lv' := [(2, .int x26), (1, .int x13), (0, .ref a0)]) h dX10_readAtom_170 rfl (by decide) rfl ?_
            refine r_iload_n h 0 dX10_readAtom_171 rfl rfl ?_
            refine r_if_ne (tgt := 184) h dX10_readAtom_172 (by decide) (fun c27 => ?_) (fun c27 => ?_)
            · have hf := ite_f c27 hf
              exact V.sub [2, 0] rfl hf
            · have hf := ite_t c27 hf
              refine r_aload_n h 2 dX10_readAtom_175 rfl rfl ?_
              refine r_bipush (v := 62) h dX10_readAtom_176 (by decide) ?_
              obtain ⟨k28, hf⟩ := hf
              refine c1901 hl h dX10_readAtom_178 k28 hf (Nat.le_of_ble_eq_true rfl) (by omega) (by omega) (fun x30 M29 hf => ?_)
              refine r_if_eq (tgt := 191) h dX10_readAtom_181 (by decide) (fun c31 => ?_) (fun c31 => ?_)
              · have hf := ite_t c31 hf
                refine r_iconst (v := 0) h dX10_readAtom_191 (by decide) ?_
                exact r_zreturn h hq dX10_readAtom_192 (by decide) ⟨_, rfl, hf⟩
              · have hf := ite_f c31 hf
                exact V.sub [2, 0] rfl hf
          · have hf := ite_t c23 hf
            refine r_iconst (v := 0) h dX10_readAtom_162 (by decide) ?_
            exact r_zreturn h hq dX10_readAtom_163 (by decide) ⟨_, rfl, hf⟩
        · have hf := ite_f c19 hf
          exact V.sub [1, 0] rfl hf
    · have hf := ite_f c9 hf
      refine r_aload_n h 0 dX10_readAtom_66 rfl rfl ?_
      obtain ⟨k32, hf⟩ := hf
      refine g1609 h dX10_readAtom_67 k32 ?_
      refine r_bipush (v := 6) h dX10_readAtom_70 (by decide) ?_
      refine r_icmp_ne (tgt := 77) h dX10_readAtom_72 (by decide) (fun c33 => ?_) (fun c33 => ?_)
      · have hf := ite_f c33 hf
        refine r_aload_n h 0 dX10_readAtom_77 rfl rfl ?_
        refine r_dup h dX10_readAtom_78 rfl ?_
        refine g1609 h dX10_readAtom_79 k32 ?_
        refine r_iconst (v := 1) h dX10_readAtom_82 (by decide) ?_
        refine r_iadd h dX10_readAtom_83 ?_
        refine p1609 h dX10_readAtom_84 k32 ?_
        refine r_goW (fun M34 eM34 => ?_)
        have hf := hf M34 eM34
        refine r_aload_n h 0 dX10_readAtom_87 rfl rfl ?_
        obtain ⟨k35, hf⟩ := hf
        refine cm1897 h dX10_readAtom_88 k35 (IH_X10_readAtom hf) (Nat.le_of_ble_eq_true rfl) (by omega) (by omega) (fun x37 M36 hf => ?_)
        refine r_if_ne (tgt := 96) h dX10_readAtom_91 (by decide) (fun c38 => ?_) (fun c38 => ?_)
        · have hf := ite_f c38 hf
          refine r_aload_n h 0 dX10_readAtom_96 rfl rfl ?_
          refine r_dup h dX10_readAtom_97 rfl ?_
          obtain ⟨k39, hf⟩ := hf
          refine g1609 h dX10_readAtom_98 k39 ?_
          refine r_iconst (v := 1) h dX10_readAtom_101 (by decide) ?_
          refine r_isub h dX10_readAtom_102 ?_
          refine p1609 h dX10_readAtom_103 k39 ?_
          refine r_goW (fun M40 eM40 => ?_)
          have hf := hf M40 eM40
          refine r_aload_n h 0 dX10_readAtom_106 rfl rfl ?_
          refine r_bipush (v := 14) h dX10_readAtom_107 (by decide) ?_
          refine r_iconst (v := 0) h dX10_readAtom_109 (by decide) ?_
          obtain ⟨k41, hf⟩ := hf
          refine c1906 hl h dX10_readAtom_110 k41 hf (Nat.le_of_ble_eq_true rfl) (by omega) (by omega) (fun M42 hf => ?_)
          refine r_iconst (v := 1) h dX10_readAtom_113 (by decide) ?_
          exact r_zreturn h hq dX10_readAtom_114 (by decide) ⟨_, rfl, hf⟩
        · have hf := ite_t c38 hf
          refine r_iconst (v := 0) h dX10_readAtom_94 (by decide) ?_
          exact r_zreturn h hq dX10_readAtom_95 (by decide) ⟨_, rfl, hf⟩
      · have hf := ite_t c33 hf
        refine r_iconst (v := 0) h dX10_readAtom_75 (by decide) ?_
        exact r_zreturn h hq dX10_readAtom_76 (by decide) ⟨_, rfl, hf⟩
  · have hf := ite_f c4 hf
    refine r_aload_n h 0 dX10_readAtom_9 rfl rfl ?_
    obtain ⟨k43, hf⟩ := hf
    refine g1609 h dX10_readAtom_10 k43 ?_
    refine r_bipush (v := 6) h dX10_readAtom_13 (by decide) ?_
    refine r_icmp_ne (tgt := 20) h dX10_readAtom_15 (by decide) (fun c44 => ?_) (fun c44 => ?_)
    · have hf := ite_f c44 hf
      refine r_aload_n h 0 dX10_readAtom_20 rfl rfl ?_
      refine r_dup h dX10_readAtom_21 rfl ?_
      refine g1609 h dX10_readAtom_22 k43 ?_
      refine r_iconst (v := 1) h dX10_readAtom_25 (by decide) ?_
      refine r_iadd h dX10_readAtom_26 ?_
      refine p1609 h dX10_readAtom_27 k43 ?_
      refine r_goW (fun M45 eM45 => ?_)
      have hf := hf M45 eM45
      refine r_aload_n h 0 dX10_readAtom_30 rfl rfl ?_
      obtain ⟨k46, hf⟩ := hf
      refine cm1889 h dX10_readAtom_31 k46 (IH_X10_readCond hf) (Nat.le_of_ble_eq_true rfl) (by omega) (by omega) (fun x48 M47 hf => ?_)
      refine r_if_ne (tgt := 39) h dX10_readAtom_34 (by decide) (fun c49 => ?_) (fun c49 => ?_)
      · have hf := ite_f c49 hf
        refine r_aload_n h 0 dX10_readAtom_39 rfl rfl ?_
        refine r_dup h dX10_readAtom_40 rfl ?_
        obtain ⟨k50, hf⟩ := hf
        refine g1609 h dX10_readAtom_41 k50 ?_
        refine r_iconst (v := 1) h dX10_readAtom_44 (by decide) ?_
        refine r_isub h dX10_readAtom_45 ?_
        refine p1609 h dX10_readAtom_46 k50 ?_
        refine r_goW (fun M51 eM51 => ?_)
        have hf := hf M51 eM51
        refine r_aload_n h 0 dX10_readAtom_49 rfl rfl ?_
        refine r_bipush (v := 41) h dX10_readAtom_50 (by decide) ?_
        obtain ⟨k52, hf⟩ := hf
        refine c1901 hl h dX10_readAtom_52 k52 hf (Nat.le_of_ble_eq_true rfl) (by omega) (by omega) (fun x54 M53 hf => ?_)
        exact r_zreturn h hq dX10_readAtom_55 hf.1 ⟨_, rfl, hf.2⟩
      · have hf := ite_t c49 hf
        refine r_iconst (v := 0) h dX10_readAtom_37 (by decide) ?_
        exact r_zreturn h hq dX10_readAtom_38 (by decide) ⟨_, rfl, hf⟩
    · have hf := ite_t c44 hf
      refine r_iconst (v := 0) h dX10_readAtom_18 (by decide) ?_
      exact r_zreturn h hq dX10_readAtom_19 (by decide) ⟨_, rfl, hf⟩
def f_X10_readAllOf (fA : Nat → gM → (Int32 → gM → Prop) → Prop) (a0 : Nat) (M : gM) (K : Int32 → gM → Prop) : Prop :=
  ∀ P9 : Nat → gM → Prop,
  (∀ (v0 : Nat) (M : gM), (∀ w5, kd M w5 = some (.inr (10, 26)) → kd M v0 = some (.inl 10) ∧ f_X10_isNext v0 w5 M (fun x8 M7 => if x8 = 0 then K 1 M7 else kd M7 v0 = some (.inl 10) ∧ fA v0 M7 (fun x12 M11 => if x12 = 0 then K 0 M11 else kd M11 v0 = some (.inl 10) ∧ f_X10_emits v0 15 0 M11 (fun M15 => P9 v0 M15)))) → P9 v0 M) →
  kd M a0 = some (.inl 10) ∧ fA a0 M (fun x3 M2 => if x3 = 0 then K 0 M2 else P9 a0 M2)
set_option maxHeartbeats 4000000 in
theorem m_X10_readAllOf {l : Launch} (hl : l.stackTraces = false) {G : gG}  {fA : Nat → gM → (Int32 → gM → Prop) → Prop}{a0 : Nat} {M : gM} {K : Int32 → gM → Prop} {FR LO fr1 lo1 : Nat} (IH_X10_readAtom : ∀ {a0 : Nat} {M : gM} {K : Int32 → gM → Prop}, fA a0 M K → gMet l G yX10_readAtom (ws_ yX10_readAtom cX10_readAtom 3 (some Jvm.ClassFile.FieldType.boolean)) ({ frames := fr1, cells := 0, slots := 0, locals := lo1 }) M [.ref a0] (kI K) kN) (hF0 : 6 ≤ FR) (hL0 : 129 ≤ LO) (hF1 : fr1 + 1 ≤ FR) (hL1 : 22 + lo1 ≤ LO) (hf : f_X10_readAllOf fA a0 M K) : gMet l G yX10_readAllOf (ws_ yX10_readAllOf cX10_readAllOf 1 (some Jvm.ClassFile.FieldType.boolean)) ({ frames := FR, cells := 0, slots := 0, locals := LO }) M [.ref a0] (kI K) kN := by
  refine gm_of hl (ret := (some Jvm.ClassFile.FieldType.boolean)) rfl (Nat.le_of_ble_eq_true rfl) (fun X h hq => ?_)
  have h : hX l G X cX10_readAllOf 1 "GlacierMailModel" FR LO := h
  have hf := hf
  show V l G X 0 0 M 0 [(0, .ref a0)] []
  have hf := hf
    (fun v0 M => V l G X 0 0 M 9 [(0, .ref v0)] [])
    (by
      intro v0 M hf
      show V l G X 0 0 M 9 [(0, .ref v0)] []
      refine r_aload_n h 0 dX10_readAllOf_9 rfl rfl ?_
      refine r_ldcwS h (i := 26) (by decide) (List.mem_of_getElem? (i := 54) rfl) dX10_readAllOf_10 (fun w5 kw5 => ?_)
      have hf := hf w5 kw5
      obtain ⟨k6, hf⟩ := hf
      refine c1857 hl h dX10_readAllOf_13 k6 hf (Nat.le_of_ble_eq_true rfl) (by omega) (by omega) (fun x8 M7 hf => ?_)
      refine r_if_eq (tgt := 38) h dX10_readAllOf_16 (by decide) (fun c9 => ?_) (fun c9 => ?_)
      · have hf := ite_t c9 hf
        refine r_iconst (v := 1) h dX10_readAllOf_38 (by decide) ?_
        exact r_zreturn h hq dX10_readAllOf_39 (by decide) ⟨_, rfl, hf⟩
      · have hf := ite_f c9 hf
        refine r_aload_n h 0 dX10_readAllOf_19 rfl rfl ?_
        obtain ⟨k10, hf⟩ := hf
        refine cm1897 h dX10_readAllOf_20 k10 (IH_X10_readAtom hf) (Nat.le_of_ble_eq_true rfl) (by omega) (by omega) (fun x12 M11 hf => ?_)
        refine r_if_ne (tgt := 28) h dX10_readAllOf_23 (by decide) (fun c13 => ?_) (fun c13 => ?_)
        · have hf := ite_f c13 hf
          refine r_aload_n h 0 dX10_readAllOf_28 rfl rfl ?_
          refine r_bipush (v := 15) h dX10_readAllOf_29 (by decide) ?_
          refine r_iconst (v := 0) h dX10_readAllOf_31 (by decide) ?_
          obtain ⟨k14, hf⟩ := hf
          refine c1906 hl h dX10_readAllOf_32 k14 hf (Nat.le_of_ble_eq_true rfl) (by omega) (by omega) (fun M15 hf => ?_)
          refine r_goto (tgt := 9) h dX10_readAllOf_35 (by decide) ?_
          exact V.sub [0] rfl hf
        · have hf := ite_t c13 hf
          refine r_iconst (v := 0) h dX10_readAllOf_26 (by decide) ?_
          exact r_zreturn h hq dX10_readAllOf_27 (by decide) ⟨_, rfl, hf⟩)
  refine r_aload_n h 0 dX10_readAllOf_0 rfl rfl ?_
  obtain ⟨k1, hf⟩ := hf
  refine cm1897 h dX10_readAllOf_1 k1 (IH_X10_readAtom hf) (Nat.le_of_ble_eq_true rfl) (by omega) (by omega) (fun x3 M2 hf => ?_)
  refine r_if_ne (tgt := 9) h dX10_readAllOf_4 (by decide) (fun c4 => ?_) (fun c4 => ?_)
  · have hf := ite_f c4 hf
    exact V.sub [0] rfl hf
  · have hf := ite_t c4 hf
    refine r_iconst (v := 0) h dX10_readAllOf_7 (by decide) ?_
    exact r_zreturn h hq dX10_readAllOf_8 (by decide) ⟨_, rfl, hf⟩
def f_X10_readCond (fB : Nat → gM → (Int32 → gM → Prop) → Prop) (a0 : Nat) (M : gM) (K : Int32 → gM → Prop) : Prop :=
  ∀ P9 : Nat → gM → Prop,
  (∀ (v0 : Nat) (M : gM), (∀ w5, kd M w5 = some (.inr (10, 27)) → kd M v0 = some (.inl 10) ∧ f_X10_isNext v0 w5 M (fun x8 M7 => if x8 = 0 then K 1 M7 else kd M7 v0 = some (.inl 10) ∧ fB v0 M7 (fun x12 M11 => if x12 = 0 then K 0 M11 else kd M11 v0 = some (.inl 10) ∧ f_X10_emits v0 16 0 M11 (fun M15 => P9 v0 M15)))) → P9 v0 M) →
  kd M a0 = some (.inl 10) ∧ fB a0 M (fun x3 M2 => if x3 = 0 then K 0 M2 else P9 a0 M2)
set_option maxHeartbeats 4000000 in
theorem m_X10_readCond {l : Launch} (hl : l.stackTraces = false) {G : gG}  {fB : Nat → gM → (Int32 → gM → Prop) → Prop}{a0 : Nat} {M : gM} {K : Int32 → gM → Prop} {FR LO fr1 lo1 : Nat} (IH_X10_readAllOf : ∀ {a0 : Nat} {M : gM} {K : Int32 → gM → Prop}, fB a0 M K → gMet l G yX10_readAllOf (ws_ yX10_readAllOf cX10_readAllOf 1 (some Jvm.ClassFile.FieldType.boolean)) ({ frames := fr1, cells := 0, slots := 0, locals := lo1 }) M [.ref a0] (kI K) kN) (hF0 : 6 ≤ FR) (hL0 : 129 ≤ LO) (hF1 : fr1 + 1 ≤ FR) (hL1 : 22 + lo1 ≤ LO) (hf : f_X10_readCond fB a0 M K) : gMet l G yX10_readCond (ws_ yX10_readCond cX10_readCond 1 (some Jvm.ClassFile.FieldType.boolean)) ({ frames := FR, cells := 0, slots := 0, locals := LO }) M [.ref a0] (kI K) kN := by
  refine gm_of hl (ret := (some Jvm.ClassFile.FieldType.boolean)) rfl (Nat.le_of_ble_eq_true rfl) (fun X h hq => ?_)
  have h : hX l G X cX10_readCond 1 "GlacierMailModel" FR LO := h
  have hf := hf
  show V l G X 0 0 M 0 [(0, .ref a0)] []
  have hf := hf
    (fun v0 M => V l G X 0 0 M 9 [(0, .ref v0)] [])
    (by
      intro v0 M hf
      show V l G X 0 0 M 9 [(0, .ref v0)] []
      refine r_aload_n h 0 dX10_readCond_9 rfl rfl ?_
      refine r_ldcwS h (i := 27) (by decide) (List.mem_of_getElem? (i := 55) rfl) dX10_readCond_10 (fun w5 kw5 => ?_)
      have hf := hf w5 kw5
      obtain ⟨k6, hf⟩ := hf
      refine c1857 hl h dX10_readCond_13 k6 hf (Nat.le_of_ble_eq_true rfl) (by omega) (by omega) (fun x8 M7 hf => ?_)
      refine r_if_eq (tgt := 38) h dX10_readCond_16 (by decide) (fun c9 => ?_) (fun c9 => ?_)
      · have hf := ite_t c9 hf
        refine r_iconst (v := 1) h dX10_readCond_38 (by decide) ?_
        exact r_zreturn h hq dX10_readCond_39 (by decide) ⟨_, rfl, hf⟩
      · have hf := ite_f c9 hf
        refine r_aload_n h 0 dX10_readCond_19 rfl rfl ?_
        obtain ⟨k10, hf⟩ := hf
        refine cm1893 h dX10_readCond_20 k10 (IH_X10_readAllOf hf) (Nat.le_of_ble_eq_true rfl) (by omega) (by omega) (fun x12 M11 hf => ?_)
        refine r_if_ne (tgt := 28) h dX10_readCond_23 (by decide) (fun c13 => ?_) (fun c13 => ?_)
        · have hf := ite_f c13 hf
          refine r_aload_n h 0 dX10_readCond_28 rfl rfl ?_
          refine r_bipush (v := 16) h dX10_readCond_29 (by decide) ?_
          refine r_iconst (v := 0) h dX10_readCond_31 (by decide) ?_
          obtain ⟨k14, hf⟩ := hf
          refine c1906 hl h dX10_readCond_32 k14 hf (Nat.le_of_ble_eq_true rfl) (by omega) (by omega) (fun M15 hf => ?_)
          refine r_goto (tgt := 9) h dX10_readCond_35 (by decide) ?_
          exact V.sub [0] rfl hf
        · have hf := ite_t c13 hf
          refine r_iconst (v := 0) h dX10_readCond_26 (by decide) ?_
          exact r_zreturn h hq dX10_readCond_27 (by decide) ⟨_, rfl, hf⟩)
  refine r_aload_n h 0 dX10_readCond_0 rfl rfl ?_
  obtain ⟨k1, hf⟩ := hf
  refine cm1893 h dX10_readCond_1 k1 (IH_X10_readAllOf hf) (Nat.le_of_ble_eq_true rfl) (by omega) (by omega) (fun x3 M2 hf => ?_)
  refine r_if_ne (tgt := 9) h dX10_readCond_4 (by decide) (fun c4 => ?_) (fun c4 => ?_)
  · have hf := ite_f c4 hf
    exact V.sub [0] rfl hf
  · have hf := ite_t c4 hf
    refine r_iconst (v := 0) h dX10_readCond_7 (by decide) ?_
    exact r_zreturn h hq dX10_readCond_8 (by decide) ⟨_, rfl, hf⟩
def fx_X10 : Nat → (Nat → gM → (Int32 → gM → Prop) → Prop) × (Nat → gM → (Int32 → gM → Prop) → Prop) × (Nat → gM → (Int32 → gM → Prop) → Prop)
  | 0 => (fun _ _ _ => False, fun _ _ _ => False, fun _ _ _ => False)
  | n + 1 => (f_X10_readAtom ((fx_X10 n).1) ((fx_X10 n).2.2), f_X10_readAllOf ((fx_X10 n).1), f_X10_readCond ((fx_X10 n).2.1))
theorem fm_X10 {l : Launch} (hl : l.stackTraces = false) {G : gG} : ∀ n : Nat, (∀ {a0 : Nat} {M : gM} {K : Int32 → gM → Prop}, (fx_X10 n).1 a0 M K → gMet l G yX10_readAtom (ws_ yX10_readAtom cX10_readAtom 3 (some Jvm.ClassFile.FieldType.boolean)) ({ frames := n + 7, cells := 0, slots := 0, locals := 22 * n + 149 }) M [.ref a0] (kI K) kN) ∧ (∀ {a0 : Nat} {M : gM} {K : Int32 → gM → Prop}, (fx_X10 n).2.1 a0 M K → gMet l G yX10_readAllOf (ws_ yX10_readAllOf cX10_readAllOf 1 (some Jvm.ClassFile.FieldType.boolean)) ({ frames := n + 7, cells := 0, slots := 0, locals := 22 * n + 149 }) M [.ref a0] (kI K) kN) ∧ (∀ {a0 : Nat} {M : gM} {K : Int32 → gM → Prop}, (fx_X10 n).2.2 a0 M K → gMet l G yX10_readCond (ws_ yX10_readCond cX10_readCond 1 (some Jvm.ClassFile.FieldType.boolean)) ({ frames := n + 7, cells := 0, slots := 0, locals := 22 * n + 149 }) M [.ref a0] (kI K) kN)
  | 0 => ⟨fun h => h.elim, fun h => h.elim, fun h => h.elim⟩
  | n + 1 => ⟨fun h => m_X10_readAtom hl (fm_X10 hl n).1 (fm_X10 hl n).2.2 (by omega) (by omega) (by omega) (by omega) h, fun h => m_X10_readAllOf hl (fm_X10 hl n).1 (by omega) (by omega) (by omega) (by omega) h, fun h => m_X10_readCond hl (fm_X10 hl n).2.1 (by omega) (by omega) (by omega) (by omega) h⟩
def f_X10_readAtomR (a0 : Nat) (M : gM) (K : Int32 → gM → Prop) : Prop := (fx_X10 22).1 a0 M K
theorem m_X10_readAtomR {l : Launch} (hl : l.stackTraces = false) {G : gG} : ∀ {a0 : Nat} {M : gM} {K : Int32 → gM → Prop}, f_X10_readAtomR a0 M K → gMet l G yX10_readAtom (ws_ yX10_readAtom cX10_readAtom 3 (some Jvm.ClassFile.FieldType.boolean)) ({ frames := 29, cells := 0, slots := 0, locals := 633 }) M [.ref a0] (kI K) kN := fun h => (fm_X10 hl 22).1 h
theorem c1897 {l : Launch} {G : gG} {X : gX} {cc : ByteArray} {nL F L bc bs pc : Nat} {M : gM} {lv : List (Nat × Value)} {rest : List Value} {a0 : Nat} {K : Int32 → gM → Prop} (hl : l.stackTraces = false) (h : hX l G X cc nL "GlacierMailModel" F L) (d : decode cc pc = .ok (.invokevirtual 258, 3)) (hk : kd M a0 = some (.inl 10)) (hf : f_X10_readAtomR a0 M K) (hst : (rest.map fun v => v.category).sum ≤ 8) (hF : 30 ≤ F) (hL : 655 ≤ L) (kk : ∀ x M1, K x M1 → V l G X bc bs M1 (pc + 3) lv (.int x :: rest)) : V l G X bc bs M pc lv (.ref a0 :: rest) := r_callV (n := 0) (As := []) h (m_X10_readAtomR hl hf) 10 rfl hk rfl ⟨by decide, by decide, by decide +kernel⟩ d q1897 q1899 qs86 q147 q1900 rfl rfl hst hF hL (Nat.zero_le _) (Nat.zero_le _) (kI_go kk) kN_go
def f_X10_readAllOfR (a0 : Nat) (M : gM) (K : Int32 → gM → Prop) : Prop := (fx_X10 22).2.1 a0 M K
theorem m_X10_readAllOfR {l : Launch} (hl : l.stackTraces = false) {G : gG} : ∀ {a0 : Nat} {M : gM} {K : Int32 → gM → Prop}, f_X10_readAllOfR a0 M K → gMet l G yX10_readAllOf (ws_ yX10_readAllOf cX10_readAllOf 1 (some Jvm.ClassFile.FieldType.boolean)) ({ frames := 29, cells := 0, slots := 0, locals := 633 }) M [.ref a0] (kI K) kN := fun h => (fm_X10 hl 22).2.1 h
theorem c1893 {l : Launch} {G : gG} {X : gX} {cc : ByteArray} {nL F L bc bs pc : Nat} {M : gM} {lv : List (Nat × Value)} {rest : List Value} {a0 : Nat} {K : Int32 → gM → Prop} (hl : l.stackTraces = false) (h : hX l G X cc nL "GlacierMailModel" F L) (d : decode cc pc = .ok (.invokevirtual 270, 3)) (hk : kd M a0 = some (.inl 10)) (hf : f_X10_readAllOfR a0 M K) (hst : (rest.map fun v => v.category).sum ≤ 8) (hF : 30 ≤ F) (hL : 653 ≤ L) (kk : ∀ x M1, K x M1 → V l G X bc bs M1 (pc + 3) lv (.int x :: rest)) : V l G X bc bs M pc lv (.ref a0 :: rest) := r_callV (n := 0) (As := []) h (m_X10_readAllOfR hl hf) 10 rfl hk rfl ⟨by decide, by decide, by decide +kernel⟩ d q1893 q1895 qs85 q147 q1896 rfl rfl hst hF hL (Nat.zero_le _) (Nat.zero_le _) (kI_go kk) kN_go
def f_X10_readCondR (a0 : Nat) (M : gM) (K : Int32 → gM → Prop) : Prop := (fx_X10 22).2.2 a0 M K
theorem m_X10_readCondR {l : Launch} (hl : l.stackTraces = false) {G : gG} : ∀ {a0 : Nat} {M : gM} {K : Int32 → gM → Prop}, f_X10_readCondR a0 M K → gMet l G yX10_readCond (ws_ yX10_readCond cX10_readCond 1 (some Jvm.ClassFile.FieldType.boolean)) ({ frames := 29, cells := 0, slots := 0, locals := 633 }) M [.ref a0] (kI K) kN := fun h => (fm_X10 hl 22).2.2 h
theorem c1889 {l : Launch} {G : gG} {X : gX} {cc : ByteArray} {nL F L bc bs pc : Nat} {M : gM} {lv : List (Nat × Value)} {rest : List Value} {a0 : Nat} {K : Int32 → gM → Prop} (hl : l.stackTraces = false) (h : hX l G X cc nL "GlacierMailModel" F L) (d : decode cc pc = .ok (.invokevirtual 253, 3)) (hk : kd M a0 = some (.inl 10)) (hf : f_X10_readCondR a0 M K) (hst : (rest.map fun v => v.category).sum ≤ 8) (hF : 30 ≤ F) (hL : 653 ≤ L) (kk : ∀ x M1, K x M1 → V l G X bc bs M1 (pc + 3) lv (.int x :: rest)) : V l G X bc bs M pc lv (.ref a0 :: rest) := r_callV (n := 0) (As := []) h (m_X10_readCondR hl hf) 10 rfl hk rfl ⟨by decide, by decide, by decide +kernel⟩ d q1889 q1891 qs84 q147 q1892 rfl rfl hst hF hL (Nat.zero_le _) (Nat.zero_le _) (kI_go kk) kN_go
def f_X10_readLawLine (a0 : Nat) (a1 : Int32) (M : gM) (K : Int32 → gM → Prop) : Prop :=
  ∀ P56 : Nat → Int32 → Int32 → Int32 → Nat → gM → Prop,
  ∀ P97 : Nat → Int32 → Int32 → Int32 → Nat → gM → Prop,
  (∀ (v0 : Nat) (v2 : Int32) (s0 : Int32) (s1 : Int32) (s2 : Nat) (M : gM), (inA M s2 0 s1 ∧ ∀ M19, M19 = sI M s2 (ix s1) s0 → kd M19 v0 = some (.inl 10) ∧ ∃ b21, rv M19 v0 1 = some b21 ∧ inA M19 b21 0 v2 ∧ if 0 ≤ (iv M19 b21 (ix v2)) then ∃ b25, rv M19 v0 1 = some b25 ∧ ∃ b27, rv M19 v0 1 = some b27 ∧ inA M19 b27 0 v2 ∧ if (iv M19 b27 (ix v2)) = 2 then P97 v0 v2 1 (v2 + 1) b25 M19 else f_X10_figures v0 0 20 3 M19 (fun x32 M31 => P97 v0 v2 x32 (v2 + 1) b25 M31) else K 0 M19) → P56 v0 v2 s0 s1 s2 M) →
  (∀ (v0 : Nat) (v2 : Int32) (s0 : Int32) (s1 : Int32) (s2 : Nat) (M : gM), (inA M s2 0 s1 ∧ ∀ M34, M34 = sI M s2 (ix s1) s0 → kd M34 v0 = some (.inl 10) ∧ ∃ b36, rv M34 v0 1 = some b36 ∧ inA M34 b36 0 (v2 + 1) ∧ if 0 ≤ (iv M34 b36 (ix (v2 + 1))) then ∃ b40, rv M34 v0 1 = some b40 ∧ inA M34 b40 0 (v2 + 2) ∧ ∀ M43, M43 = sI M34 b40 (ix (v2 + 2)) (iv M34 v0 15) → kd M43 v0 = some (.inl 10) ∧ ∀ M45, M45 = sI M43 v0 12 0 → ∀ w46, kd M45 w46 = some (.inr (10, 24)) → kd M45 v0 = some (.inl 10) ∧ f_X10_isNext v0 w46 M45 (fun x49 M48 => if x49 = 0 then kd M48 v0 = some (.inl 10) ∧ ∃ b52, rv M48 v0 1 = some b52 ∧ inA M48 b52 0 (v2 + 3) ∧ ∀ M55, M55 = sI M48 b52 (ix (v2 + 3)) (iv M48 v0 15) → K 1 M55 else kd M48 v0 = some (.inl 10) ∧ f_X10_readCondR v0 M48 (fun x58 M57 => if x58 = 0 then K 0 M57 else kd M57 v0 = some (.inl 10) ∧ ∃ b61, rv M57 v0 1 = some b61 ∧ inA M57 b61 0 (v2 + 3) ∧ ∀ M64, M64 = sI M57 b61 (ix (v2 + 3)) (iv M57 v0 15) → K 1 M64)) else K 0 M34) → P97 v0 v2 s0 s1 s2 M) →
  kd M a0 = some (.inl 10) ∧ ∃ b2, rv M a0 1 = some b2 ∧ ∀ w4, kd M w4 = some (.inr (10, 21)) → f_X10_isWord a0 w4 M (fun x6 M5 => if x6 = 0 then ∀ w8, kd M5 w8 = some (.inr (10, 22)) → kd M5 a0 = some (.inl 10) ∧ f_X10_isWord a0 w8 M5 (fun x11 M10 => if x11 = 0 then ∀ w13, kd M10 w13 = some (.inr (10, 23)) → kd M10 a0 = some (.inl 10) ∧ f_X10_isWord a0 w13 M10 (fun x16 M15 => if x16 = 0 then P56 a0 ((1245 : Int32) + ((4 : Int32) * a1)) (-1) ((1245 : Int32) + ((4 : Int32) * a1)) b2 M15 else P56 a0 ((1245 : Int32) + ((4 : Int32) * a1)) 2 ((1245 : Int32) + ((4 : Int32) * a1)) b2 M15) else P56 a0 ((1245 : Int32) + ((4 : Int32) * a1)) 1 ((1245 : Int32) + ((4 : Int32) * a1)) b2 M10) else P56 a0 ((1245 : Int32) + ((4 : Int32) * a1)) 0 ((1245 : Int32) + ((4 : Int32) * a1)) b2 M5)
set_option maxHeartbeats 4000000 in
theorem m_X10_readLawLine {l : Launch} (hl : l.stackTraces = false) {G : gG} {a0 : Nat} {a1 : Int32} {M : gM} {K : Int32 → gM → Prop} (hf : f_X10_readLawLine a0 a1 M K) : gMet l G yX10_readLawLine (ws_ yX10_readLawLine cX10_readLawLine 3 (some Jvm.ClassFile.FieldType.boolean)) ({ frames := 30, cells := 0, slots := 0, locals := 653 }) M [.ref a0, .int a1] (kI K) kN := by
  refine gm_of hl (ret := (some Jvm.ClassFile.FieldType.boolean)) rfl (Nat.le_of_ble_eq_true rfl) (fun X h hq => ?_)
  have h : hX l G X cX10_readLawLine 3 "GlacierMailModel" 30 653 := h
  have hf := hf
  show V l G X 0 0 M 0 [(0, .ref a0), (1, .int a1)] []
  have hf := hf
    (fun v0 v2 s0 s1 s2 M => V l G X 0 0 M 56 [(0, .ref v0), (2, .int v2)] [.int s0, .int s1, .ref s2])
    (fun v0 v2 s0 s1 s2 M => V l G X 0 0 M 97 [(0, .ref v0), (2, .int v2)] [.int s0, .int s1, .ref s2])
    (by
      intro v0 v2 s0 s1 s2 M hf
      show V l G X 0 0 M 56 [(0, .ref v0), (2, .int v2)] [.int s0, .int s1, .ref s2]
      obtain ⟨j18, hf⟩ := hf
      refine r_iastore h dX10_readLawLine_56 j18 ?_
      refine r_goW (fun M19 eM19 => ?_)
      have hf := hf M19 eM19
      refine r_aload_n h 0 dX10_readLawLine_57 rfl rfl ?_
      obtain ⟨k20, hf⟩ := hf
      obtain ⟨b21, e22, hf⟩ := hf
      refine g1598 h dX10_readLawLine_58 k20 e22 ?_
      refine r_iload_n h 1 dX10_readLawLine_61 rfl rfl ?_
      obtain ⟨j23, hf⟩ := hf
      refine r_iaload h dX10_readLawLine_62 j23 ?_
      refine r_if_ge (tgt := 68) h dX10_readLawLine_63 (by decide) (fun c24 => ?_) (fun c24 => ?_)
      · have hf := ite_t c24 hf
        refine r_aload_n h 0 dX10_readLawLine_68 rfl rfl ?_
        obtain ⟨b25, e26, hf⟩ := hf
        refine g1598 h dX10_readLawLine_69 k20 e26 ?_
        refine r_iload_n h 1 dX10_readLawLine_72 rfl rfl ?_
        refine r_iconst (v := 1) h dX10_readLawLine_73 (by decide) ?_
        refine r_iadd h dX10_readLawLine_74 ?_
        refine r_aload_n h 0 dX10_readLawLine_75 rfl rfl ?_
        obtain ⟨b27, e28, hf⟩ := hf
        refine g1598 h dX10_readLawLine_76 k20 e28 ?_
        refine r_iload_n h 1 dX10_readLawLine_79 rfl rfl ?_
        obtain ⟨j29, hf⟩ := hf
        refine r_iaload h dX10_readLawLine_80 j29 ?_
        refine r_iconst (v := 2) h dX10_readLawLine_81 (by decide) ?_
        refine r_icmp_ne (tgt := 89) h dX10_readLawLine_82 (by decide) (fun c30 => ?_) (fun c30 => ?_)
        · have hf := ite_f c30 hf
          refine r_aload_n h 0 dX10_readLawLine_89 rfl rfl ?_
          refine r_iconst (v := 0) h dX10_readLawLine_90 (by decide) ?_
          refine r_bipush (v := 20) h dX10_readLawLine_91 (by decide) ?_
          refine r_iconst (v := 3) h dX10_readLawLine_93 (by decide) ?_
          refine c1798 hl h dX10_readLawLine_94 k20 hf (Nat.le_of_ble_eq_true rfl) (by decide) (by decide) (fun x32 M31 hf => ?_)
          exact V.sub [0, 1] rfl hf
        · have hf := ite_t c30 hf
          refine r_iconst (v := 1) h dX10_readLawLine_85 (by decide) ?_
          refine r_goto (tgt := 97) h dX10_readLawLine_86 (by decide) ?_
          exact V.sub [0, 1] rfl hf
      · have hf := ite_f c24 hf
        refine r_iconst (v := 0) h dX10_readLawLine_66 (by decide) ?_
        exact r_zreturn h hq dX10_readLawLine_67 (by decide) ⟨_, rfl, hf⟩)
    (by
      intro v0 v2 s0 s1 s2 M hf
      show V l G X 0 0 M 97 [(0, .ref v0), (2, .int v2)] [.int s0, .int s1, .ref s2]
      obtain ⟨j33, hf⟩ := hf
      refine r_iastore h dX10_readLawLine_97 j33 ?_
      refine r_goW (fun M34 eM34 => ?_)
      have hf := hf M34 eM34
      refine r_aload_n h 0 dX10_readLawLine_98 rfl rfl ?_
      obtain ⟨k35, hf⟩ := hf
      obtain ⟨b36, e37, hf⟩ := hf
      refine g1598 h dX10_readLawLine_99 k35 e37 ?_
      refine r_iload_n h 1 dX10_readLawLine_102 rfl rfl ?_
      refine r_iconst (v := 1) h dX10_readLawLine_103 (by decide) ?_
      refine r_iadd h dX10_readLawLine_104 ?_
      obtain ⟨j38, hf⟩ := hf
      refine r_iaload h dX10_readLawLine_105 j38 ?_
      refine r_if_ge (tgt := 111) h dX10_readLawLine_106 (by decide) (fun c39 => ?_) (fun c39 => ?_)
      · have hf := ite_t c39 hf
        refine r_aload_n h 0 dX10_readLawLine_111 rfl rfl ?_
        obtain ⟨b40, e41, hf⟩ := hf
        refine g1598 h dX10_readLawLine_112 k35 e41 ?_
        refine r_iload_n h 1 dX10_readLawLine_115 rfl rfl ?_
        refine r_iconst (v := 2) h dX10_readLawLine_116 (by decide) ?_
        refine r_iadd h dX10_readLawLine_117 ?_
        refine r_aload_n h 0 dX10_readLawLine_118 rfl rfl ?_
        refine g1612 h dX10_readLawLine_119 k35 ?_
        obtain ⟨j42, hf⟩ := hf
        refine r_iastore h dX10_readLawLine_122 j42 ?_
        refine r_goW (fun M43 eM43 => ?_)
        have hf := hf M43 eM43
        refine r_aload_n h 0 dX10_readLawLine_123 rfl rfl ?_
        refine r_iconst (v := 0) h dX10_readLawLine_124 (by decide) ?_
        obtain ⟨k44, hf⟩ := hf
        refine p1609 h dX10_readLawLine_125 k44 ?_
        refine r_goW (fun M45 eM45 => ?_)
        have hf := hf M45 eM45
        refine r_aload_n h 0 dX10_readLawLine_128 rfl rfl ?_
        refine r_ldcwS h (i := 24) (by decide) (List.mem_of_getElem? (i := 43) rfl) dX10_readLawLine_129 (fun w46 kw46 => ?_)
        have hf := hf w46 kw46
        obtain ⟨k47, hf⟩ := hf
        refine c1857 hl h dX10_readLawLine_132 k47 hf (Nat.le_of_ble_eq_true rfl) (by decide) (by decide) (fun x49 M48 hf => ?_)
        refine r_if_eq (tgt := 147) h dX10_readLawLine_135 (by decide) (fun c50 => ?_) (fun c50 => ?_)
        · have hf := ite_t c50 hf
          refine r_aload_n h 0 dX10_readLawLine_147 rfl rfl ?_
          obtain ⟨k51, hf⟩ := hf
          obtain ⟨b52, e53, hf⟩ := hf
          refine g1598 h dX10_readLawLine_148 k51 e53 ?_
          refine r_iload_n h 1 dX10_readLawLine_151 rfl rfl ?_
          refine r_iconst (v := 3) h dX10_readLawLine_152 (by decide) ?_
          refine r_iadd h dX10_readLawLine_153 ?_
          refine r_aload_n h 0 dX10_readLawLine_154 rfl rfl ?_
          refine g1612 h dX10_readLawLine_155 k51 ?_
          obtain ⟨j54, hf⟩ := hf
          refine r_iastore h dX10_readLawLine_158 j54 ?_
          refine r_goW (fun M55 eM55 => ?_)
          have hf := hf M55 eM55
          refine r_iconst (v := 1) h dX10_readLawLine_159 (by decide) ?_
          exact r_zreturn h hq dX10_readLawLine_160 (by decide) ⟨_, rfl, hf⟩
        · have hf := ite_f c50 hf
          refine r_aload_n h 0 dX10_readLawLine_138 rfl rfl ?_
          obtain ⟨k56, hf⟩ := hf
          refine c1889 hl h dX10_readLawLine_139 k56 hf (Nat.le_of_ble_eq_true rfl) (by decide) (by decide) (fun x58 M57 hf => ?_)
          refine r_if_ne (tgt := 147) h dX10_readLawLine_142 (by decide) (fun c59 => ?_) (fun c59 => ?_)
          · have hf := ite_f c59 hf
            refine r_aload_n h 0 dX10_readLawLine_147 rfl rfl ?_
            obtain ⟨k60, hf⟩ := hf
            obtain ⟨b61, e62, hf⟩ := hf
            refine g1598 h dX10_readLawLine_148 k60 e62 ?_
            refine r_iload_n h 1 dX10_readLawLine_151 rfl rfl ?_
            refine r_iconst (v := 3) h dX10_readLawLine_152 (by decide) ?_
            refine r_iadd h dX10_readLawLine_153 ?_
            refine r_aload_n h 0 dX10_readLawLine_154 rfl rfl ?_
            refine g1612 h dX10_readLawLine_155 k60 ?_
            obtain ⟨j63, hf⟩ := hf
            refine r_iastore h dX10_readLawLine_158 j63 ?_
            refine r_goW (fun M64 eM64 => ?_)
            have hf := hf M64 eM64
            refine r_iconst (v := 1) h dX10_readLawLine_159 (by decide) ?_
            exact r_zreturn h hq dX10_readLawLine_160 (by decide) ⟨_, rfl, hf⟩
          · have hf := ite_t c59 hf
            refine r_iconst (v := 0) h dX10_readLawLine_145 (by decide) ?_
            exact r_zreturn h hq dX10_readLawLine_146 (by decide) ⟨_, rfl, hf⟩
      · have hf := ite_f c39 hf
        refine r_iconst (v := 0) h dX10_readLawLine_109 (by decide) ?_
        exact r_zreturn h hq dX10_readLawLine_110 (by decide) ⟨_, rfl, hf⟩)
  refine r_sipush (v := 1245) h dX10_readLawLine_0 (by decide) ?_
  refine r_iconst (v := 4) h dX10_readLawLine_3 (by decide) ?_
  refine r_iload_n h 1 dX10_readLawLine_4 rfl rfl ?_
  refine r_imul h dX10_readLawLine_5 ?_
  refine r_iadd h dX10_readLawLine_6 ?_
  refine r_istore_n (lv' := [(2, .int ((1245 : Int32) + ((4 : Int32) * a1))), (0, .ref a0), (1, .int a1)]) h dX10_readLawLine_7 rfl (by decide) rfl ?_
  refine r_aload_n h 1 dX10_readLawLine_8 rfl rfl ?_
  obtain ⟨k1, hf⟩ := hf
  obtain ⟨b2, e3, hf⟩ := hf
  refine g1598 h dX10_readLawLine_9 k1 e3 ?_
  refine r_iload_n h 0 dX10_readLawLine_12 rfl rfl ?_
  refine r_aload_n h 1 dX10_readLawLine_13 rfl rfl ?_
  refine r_ldcwS h (i := 21) (by decide) (List.mem_of_getElem? (i := 40) rfl) dX10_readLawLine_14 (fun w4 kw4 => ?_)
  have hf := hf w4 kw4
  refine c1772 hl h dX10_readLawLine_17 k1 hf (Nat.le_of_ble_eq_true rfl) (by decide) (by decide) (fun x6 M5 hf => ?_)
  refine r_if_eq (tgt := 27) h dX10_readLawLine_20 (by decide) (fun c7 => ?_) (fun c7 => ?_)
  · have hf := ite_t c7 hf
    refine r_aload_n h 1 dX10_readLawLine_27 rfl rfl ?_
    refine r_ldcwS h (i := 22) (by decide) (List.mem_of_getElem? (i := 41) rfl) dX10_readLawLine_28 (fun w8 kw8 => ?_)
    have hf := hf w8 kw8
    obtain ⟨k9, hf⟩ := hf
    refine c1772 hl h dX10_readLawLine_31 k9 hf (Nat.le_of_ble_eq_true rfl) (by decide) (by decide) (fun x11 M10 hf => ?_)
    refine r_if_eq (tgt := 41) h dX10_readLawLine_34 (by decide) (fun c12 => ?_) (fun c12 => ?_)
    · have hf := ite_t c12 hf
      refine r_aload_n h 1 dX10_readLawLine_41 rfl rfl ?_
      refine r_ldcwS h (i := 23) (by decide) (List.mem_of_getElem? (i := 42) rfl) dX10_readLawLine_42 (fun w13 kw13 => ?_)
      have hf := hf w13 kw13
      obtain ⟨k14, hf⟩ := hf
      refine c1772 hl h dX10_readLawLine_45 k14 hf (Nat.le_of_ble_eq_true rfl) (by decide) (by decide) (fun x16 M15 hf => ?_)
      refine r_if_eq (tgt := 55) h dX10_readLawLine_48 (by decide) (fun c17 => ?_) (fun c17 => ?_)
      · have hf := ite_t c17 hf
        refine r_iconst (v := (-1)) h dX10_readLawLine_55 (by decide) ?_
        exact V.sub [1, 0] rfl hf
      · have hf := ite_f c17 hf
        refine r_iconst (v := 2) h dX10_readLawLine_51 (by decide) ?_
        refine r_goto (tgt := 56) h dX10_readLawLine_52 (by decide) ?_
        exact V.sub [1, 0] rfl hf
    · have hf := ite_f c12 hf
      refine r_iconst (v := 1) h dX10_readLawLine_37 (by decide) ?_
      refine r_goto (tgt := 56) h dX10_readLawLine_38 (by decide) ?_
      exact V.sub [1, 0] rfl hf
  · have hf := ite_f c7 hf
    refine r_iconst (v := 0) h dX10_readLawLine_23 (by decide) ?_
    refine r_goto (tgt := 56) h dX10_readLawLine_24 (by decide) ?_
    exact V.sub [1, 0] rfl hf
theorem c1881 {l : Launch} {G : gG} {X : gX} {cc : ByteArray} {nL F L bc bs pc : Nat} {M : gM} {lv : List (Nat × Value)} {rest : List Value} {a0 : Nat} {a1 : Int32} {K : Int32 → gM → Prop} (hl : l.stackTraces = false) (h : hX l G X cc nL "GlacierMailModel" F L) (d : decode cc pc = .ok (.invokevirtual 286, 3)) (hk : kd M a0 = some (.inl 10)) (hf : f_X10_readLawLine a0 a1 M K) (hst : (rest.map fun v => v.category).sum ≤ 8) (hF : 31 ≤ F) (hL : 675 ≤ L) (kk : ∀ x M1, K x M1 → V l G X bc bs M1 (pc + 3) lv (.int x :: rest)) : V l G X bc bs M pc lv (.int a1 :: .ref a0 :: rest) := r_callV (n := 1) (As := [.int a1]) h (m_X10_readLawLine hl hf) 10 rfl hk rfl ⟨by decide, by decide, by decide +kernel⟩ d q1881 q1883 qs83 q147 q1884 rfl rfl hst hF hL (Nat.zero_le _) (Nat.zero_le _) (kI_go kk) kN_go
def f_X10_readLine (a0 : Nat) (a1 : Int32) (a2 : Int32) (M : gM) (K : Int32 → gM → Prop) : Prop :=
  ∀ P16 : Nat → Int32 → Int32 → Int32 → Int32 → gM → Prop,
  (∀ (v0 : Nat) (v1 : Int32) (v2 : Int32) (s0 : Int32) (s1 : Int32) (M : gM), (if s0 ≤ s1 then K 0 M else if v1 = 0 then kd M v0 = some (.inl 10) ∧ f_X10_readLawLine v0 v2 M (fun x8 M7 => if x8 = 0 then K 0 M7 else K 1 M7) else kd M v0 = some (.inl 10) ∧ f_X10_readValleyLine v0 M (fun x12 M11 => if x12 = 0 then K 0 M11 else K 1 M11)) → P16 v0 v1 v2 s0 s1 M) →
  kd M a0 = some (.inl 10) ∧ f_X10_letterRow a0 M (fun M2 => if a1 = 0 then P16 a0 a1 a2 12 a2 M2 else P16 a0 a1 a2 14 a2 M2)
set_option maxHeartbeats 4000000 in
theorem m_X10_readLine {l : Launch} (hl : l.stackTraces = false) {G : gG} {a0 : Nat} {a1 : Int32} {a2 : Int32} {M : gM} {K : Int32 → gM → Prop} (hf : f_X10_readLine a0 a1 a2 M K) : gMet l G yX10_readLine (ws_ yX10_readLine cX10_readLine 3 (some Jvm.ClassFile.FieldType.boolean)) ({ frames := 31, cells := 0, slots := 0, locals := 675 }) M [.ref a0, .int a1, .int a2] (kI K) kN := by
  refine gm_of hl (ret := (some Jvm.ClassFile.FieldType.boolean)) rfl (Nat.le_of_ble_eq_true rfl) (fun X h hq => ?_)
  have h : hX l G X cX10_readLine 3 "GlacierMailModel" 31 675 := h
  have hf := hf
  show V l G X 0 0 M 0 [(0, .ref a0), (1, .int a1), (2, .int a2)] []
  have hf := hf
    (fun v0 v1 v2 s0 s1 M => V l G X 0 0 M 16 [(0, .ref v0), (1, .int v1), (2, .int v2)] [.int s0, .int s1])
    (by
      intro v0 v1 v2 s0 s1 M hf
      show V l G X 0 0 M 16 [(0, .ref v0), (1, .int v1), (2, .int v2)] [.int s0, .int s1]
      refine r_icmp_ge (tgt := 45) h dX10_readLine_16 (by decide) (fun c4 => ?_) (fun c4 => ?_)
      · have hf := ite_t c4 hf
        refine r_iconst (v := 0) h dX10_readLine_45 (by decide) ?_
        exact r_zreturn h hq dX10_readLine_46 (by decide) ⟨_, rfl, hf⟩
      · have hf := ite_f c4 hf
        refine r_iload_n h 1 dX10_readLine_19 rfl rfl ?_
        refine r_if_eq (tgt := 33) h dX10_readLine_20 (by decide) (fun c5 => ?_) (fun c5 => ?_)
        · have hf := ite_t c5 hf
          refine r_aload_n h 0 dX10_readLine_33 rfl rfl ?_
          refine r_iload_n h 2 dX10_readLine_34 rfl rfl ?_
          obtain ⟨k6, hf⟩ := hf
          refine c1881 hl h dX10_readLine_35 k6 hf (Nat.le_of_ble_eq_true rfl) (by decide) (by decide) (fun x8 M7 hf => ?_)
          refine r_if_eq (tgt := 45) h dX10_readLine_38 (by decide) (fun c9 => ?_) (fun c9 => ?_)
          · have hf := ite_t c9 hf
            refine r_iconst (v := 0) h dX10_readLine_45 (by decide) ?_
            exact r_zreturn h hq dX10_readLine_46 (by decide) ⟨_, rfl, hf⟩
          · have hf := ite_f c9 hf
            refine r_iconst (v := 1) h dX10_readLine_41 (by decide) ?_
            refine r_goto (tgt := 46) h dX10_readLine_42 (by decide) ?_
            exact r_zreturn h hq dX10_readLine_46 (by decide) ⟨_, rfl, hf⟩
        · have hf := ite_f c5 hf
          refine r_aload_n h 0 dX10_readLine_23 rfl rfl ?_
          obtain ⟨k10, hf⟩ := hf
          refine c1767 hl h dX10_readLine_24 k10 hf (Nat.le_of_ble_eq_true rfl) (by decide) (by decide) (fun x12 M11 hf => ?_)
          refine r_if_eq (tgt := 45) h dX10_readLine_27 (by decide) (fun c13 => ?_) (fun c13 => ?_)
          · have hf := ite_t c13 hf
            refine r_iconst (v := 0) h dX10_readLine_45 (by decide) ?_
            exact r_zreturn h hq dX10_readLine_46 (by decide) ⟨_, rfl, hf⟩
          · have hf := ite_f c13 hf
            refine r_goto (tgt := 41) h dX10_readLine_30 (by decide) ?_
            refine r_iconst (v := 1) h dX10_readLine_41 (by decide) ?_
            refine r_goto (tgt := 46) h dX10_readLine_42 (by decide) ?_
            exact r_zreturn h hq dX10_readLine_46 (by decide) ⟨_, rfl, hf⟩)
  refine r_aload_n h 0 dX10_readLine_0 rfl rfl ?_
  obtain ⟨k1, hf⟩ := hf
  refine c1763 hl h dX10_readLine_1 k1 hf (Nat.le_of_ble_eq_true rfl) (by decide) (by decide) (fun M2 hf => ?_)
  refine r_iload_n h 2 dX10_readLine_4 rfl rfl ?_
  refine r_iload_n h 1 dX10_readLine_5 rfl rfl ?_
  refine r_if_eq (tgt := 14) h dX10_readLine_6 (by decide) (fun c3 => ?_) (fun c3 => ?_)
  · have hf := ite_t c3 hf
    refine r_bipush (v := 12) h dX10_readLine_14 (by decide) ?_
    exact V.sub [0, 1, 2] rfl hf
  · have hf := ite_f c3 hf
    refine r_bipush (v := 14) h dX10_readLine_9 (by decide) ?_
    refine r_goto (tgt := 16) h dX10_readLine_11 (by decide) ?_
    exact V.sub [0, 1, 2] rfl hf
theorem c1759 {l : Launch} {G : gG} {X : gX} {cc : ByteArray} {nL F L bc bs pc : Nat} {M : gM} {lv : List (Nat × Value)} {rest : List Value} {a0 : Nat} {a1 : Int32} {a2 : Int32} {K : Int32 → gM → Prop} (hl : l.stackTraces = false) (h : hX l G X cc nL "GlacierMailModel" F L) (d : decode cc pc = .ok (.invokevirtual 292, 3)) (hk : kd M a0 = some (.inl 10)) (hf : f_X10_readLine a0 a1 a2 M K) (hst : (rest.map fun v => v.category).sum ≤ 8) (hF : 32 ≤ F) (hL : 697 ≤ L) (kk : ∀ x M1, K x M1 → V l G X bc bs M1 (pc + 3) lv (.int x :: rest)) : V l G X bc bs M pc lv (.int a2 :: .int a1 :: .ref a0 :: rest) := r_callV (n := 2) (As := [.int a1, .int a2]) h (m_X10_readLine hl hf) 10 rfl hk rfl ⟨by decide, by decide, by decide +kernel⟩ d q1759 q1761 qs56 q147 q1762 rfl rfl hst hF hL (Nat.zero_le _) (Nat.zero_le _) (kI_go kk) kN_go
def f_X10_readAll (a0 : Nat) (a1 : Int32) (M : gM) (K : Int32 → gM → Prop) : Prop :=
  ∀ P28 : Nat → Int32 → Int32 → gM → Prop,
  (∀ (v0 : Nat) (v1 : Int32) (v2 : Int32) (M : gM), (kd M v0 = some (.inl 10) ∧ f_X10_readLine v0 v1 v2 M (fun x11 M10 => if x11 = 0 then K (-1) M10 else kd M10 v0 = some (.inl 10) ∧ f_X10_blanks v0 M10 (fun M14 => kd M14 v0 = some (.inl 10) ∧ if (iv M14 v0 9) = (iv M14 v0 10) then K (v2 + 1) M14 else f_X10_isAt v0 59 59 M14 (fun x18 M17 => if x18 = 0 then K (-1) M17 else kd M17 v0 = some (.inl 10) ∧ ∀ M21, M21 = sI M17 v0 9 ((iv M17 v0 9) + 1) → P28 v0 v1 (v2 + 1) M21)))) → P28 v0 v1 v2 M) →
  kd M a0 = some (.inl 10) ∧ f_X10_uses a0 M (fun M2 => kd M2 a0 = some (.inl 10) ∧ ∀ M4, M4 = sI M2 a0 15 0 → kd M4 a0 = some (.inl 10) ∧ f_X10_blanks a0 M4 (fun M6 => kd M6 a0 = some (.inl 10) ∧ if (iv M6 a0 9) = (iv M6 a0 10) then K 0 M6 else P28 a0 a1 0 M6))
set_option maxHeartbeats 4000000 in
theorem m_X10_readAll {l : Launch} (hl : l.stackTraces = false) {G : gG} {a0 : Nat} {a1 : Int32} {M : gM} {K : Int32 → gM → Prop} (hf : f_X10_readAll a0 a1 M K) : gMet l G yX10_readAll (ws_ yX10_readAll cX10_readAll 3 (some Jvm.ClassFile.FieldType.int)) ({ frames := 32, cells := 0, slots := 0, locals := 697 }) M [.ref a0, .int a1] (kI K) kN := by
  refine gm_of hl (ret := (some Jvm.ClassFile.FieldType.int)) rfl (Nat.le_of_ble_eq_true rfl) (fun X h hq => ?_)
  have h : hX l G X cX10_readAll 3 "GlacierMailModel" 32 697 := h
  have hf := hf
  show V l G X 0 0 M 0 [(0, .ref a0), (1, .int a1)] []
  have hf := hf
    (fun v0 v1 v2 M => V l G X 0 0 M 28 [(0, .ref v0), (1, .int v1), (2, .int v2)] [])
    (by
      intro v0 v1 v2 M hf
      show V l G X 0 0 M 28 [(0, .ref v0), (1, .int v1), (2, .int v2)] []
      refine r_aload_n h 0 dX10_readAll_28 rfl rfl ?_
      refine r_iload_n h 1 dX10_readAll_29 rfl rfl ?_
      refine r_iload_n h 2 dX10_readAll_30 rfl rfl ?_
      obtain ⟨k9, hf⟩ := hf
      refine c1759 hl h dX10_readAll_31 k9 hf (Nat.le_of_ble_eq_true rfl) (by decide) (by decide) (fun x11 M10 hf => ?_)
      refine r_if_ne (tgt := 39) h dX10_readAll_34 (by decide) (fun c12 => ?_) (fun c12 => ?_)
      · have hf := ite_f c12 hf
        refine r_aload_n h 0 dX10_readAll_39 rfl rfl ?_
        obtain ⟨k13, hf⟩ := hf
        refine c1751 hl h dX10_readAll_40 k13 hf (Nat.le_of_ble_eq_true rfl) (by decide) (by decide) (fun M14 hf => ?_)
        refine r_aload_n h 0 dX10_readAll_43 rfl rfl ?_
        obtain ⟨k15, hf⟩ := hf
        refine g1606 h dX10_readAll_44 k15 ?_
        refine r_aload_n h 0 dX10_readAll_47 rfl rfl ?_
        refine g1607 h dX10_readAll_48 k15 ?_
        refine r_icmp_ne (tgt := 58) h dX10_readAll_51 (by decide) (fun c16 => ?_) (fun c16 => ?_)
        · have hf := ite_f c16 hf
          refine r_aload_n h 0 dX10_readAll_58 rfl rfl ?_
          refine r_bipush (v := 59) h dX10_readAll_59 (by decide) ?_
          refine r_bipush (v := 59) h dX10_readAll_61 (by decide) ?_
          refine c1755 hl h dX10_readAll_63 k15 hf (Nat.le_of_ble_eq_true rfl) (by decide) (by decide) (fun x18 M17 hf => ?_)
          refine r_if_ne (tgt := 71) h dX10_readAll_66 (by decide) (fun c19 => ?_) (fun c19 => ?_)
          · have hf := ite_f c19 hf
            refine r_aload_n h 0 dX10_readAll_71 rfl rfl ?_
            refine r_dup h dX10_readAll_72 rfl ?_
            obtain ⟨k20, hf⟩ := hf
            refine g1606 h dX10_readAll_73 k20 ?_
            refine r_iconst (v := 1) h dX10_readAll_76 (by decide) ?_
            refine r_iadd h dX10_readAll_77 ?_
            refine p1606 h dX10_readAll_78 k20 ?_
            refine r_goW (fun M21 eM21 => ?_)
            have hf := hf M21 eM21
            refine r_iinc (v := v2 + 1) (lv' := [(2, .int (v2 + 1)), (0, .ref v0), (1, .int v1)]) h 2 dX10_readAll_81 rfl rfl (by decide) rfl ?_
            refine r_goto (tgt := 28) h dX10_readAll_84 (by decide) ?_
            exact V.sub [1, 2, 0] rfl hf
          · have hf := ite_t c19 hf
            refine r_iconst (v := (-1)) h dX10_readAll_69 (by decide) ?_
            exact r_ireturn h hq dX10_readAll_70 ⟨_, rfl, hf⟩
        · have hf := ite_t c16 hf
          refine r_iload_n h 2 dX10_readAll_54 rfl rfl ?_
          refine r_iconst (v := 1) h dX10_readAll_55 (by decide) ?_
          refine r_iadd h dX10_readAll_56 ?_
          exact r_ireturn h hq dX10_readAll_57 ⟨_, rfl, hf⟩
      · have hf := ite_t c12 hf
        refine r_iconst (v := (-1)) h dX10_readAll_37 (by decide) ?_
        exact r_ireturn h hq dX10_readAll_38 ⟨_, rfl, hf⟩)
  refine r_aload_n h 0 dX10_readAll_0 rfl rfl ?_
  obtain ⟨k1, hf⟩ := hf
  refine c1747 hl h dX10_readAll_1 k1 hf (Nat.le_of_ble_eq_true rfl) (by decide) (by decide) (fun M2 hf => ?_)
  refine r_aload_n h 0 dX10_readAll_4 rfl rfl ?_
  refine r_iconst (v := 0) h dX10_readAll_5 (by decide) ?_
  obtain ⟨k3, hf⟩ := hf
  refine p1612 h dX10_readAll_6 k3 ?_
  refine r_goW (fun M4 eM4 => ?_)
  have hf := hf M4 eM4
  refine r_aload_n h 0 dX10_readAll_9 rfl rfl ?_
  obtain ⟨k5, hf⟩ := hf
  refine c1751 hl h dX10_readAll_10 k5 hf (Nat.le_of_ble_eq_true rfl) (by decide) (by decide) (fun M6 hf => ?_)
  refine r_aload_n h 0 dX10_readAll_13 rfl rfl ?_
  obtain ⟨k7, hf⟩ := hf
  refine g1606 h dX10_readAll_14 k7 ?_
  refine r_aload_n h 0 dX10_readAll_17 rfl rfl ?_
  refine g1607 h dX10_readAll_18 k7 ?_
  refine r_icmp_ne (tgt := 26) h dX10_readAll_21 (by decide) (fun c8 => ?_) (fun c8 => ?_)
  · have hf := ite_f c8 hf
    refine r_iconst (v := 0) h dX10_readAll_26 (by decide) ?_
    refine r_istore_n (lv' := [(2, .int 0), (0, .ref a0), (1, .int a1)]) h dX10_readAll_27 rfl (by decide) rfl ?_
    exact V.sub [1, 2, 0] rfl hf
  · have hf := ite_t c8 hf
    refine r_iconst (v := 0) h dX10_readAll_24 (by decide) ?_
    exact r_ireturn h hq dX10_readAll_25 ⟨_, rfl, hf⟩
theorem c1743 {l : Launch} {G : gG} {X : gX} {cc : ByteArray} {nL F L bc bs pc : Nat} {M : gM} {lv : List (Nat × Value)} {rest : List Value} {a0 : Nat} {a1 : Int32} {K : Int32 → gM → Prop} (hl : l.stackTraces = false) (h : hX l G X cc nL "GlacierMailModel" F L) (d : decode cc pc = .ok (.invokevirtual 296, 3)) (hk : kd M a0 = some (.inl 10)) (hf : f_X10_readAll a0 a1 M K) (hst : (rest.map fun v => v.category).sum ≤ 8) (hF : 33 ≤ F) (hL : 719 ≤ L) (kk : ∀ x M1, K x M1 → V l G X bc bs M1 (pc + 3) lv (.int x :: rest)) : V l G X bc bs M pc lv (.int a1 :: .ref a0 :: rest) := r_callV (n := 1) (As := [.int a1]) h (m_X10_readAll hl hf) 10 rfl hk rfl ⟨by decide, by decide, by decide +kernel⟩ d q1743 q1745 qs52 q147 q1746 rfl rfl hst hF hL (Nat.zero_le _) (Nat.zero_le _) (kI_go kk) kN_go
