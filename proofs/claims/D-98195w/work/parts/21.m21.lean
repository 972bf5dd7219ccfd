def f_X3_draws (a0 : Nat) (M : gM) (K : gM → Prop) : Prop :=
  ∀ P7 : Nat → Int32 → Int32 → gM → Prop,
  (∀ (v0 : Nat) (v1 : Int32) (v2 : Int32) (M : gM), (if 300 ≤ v2 then K M else kd M v0 = some (.inl 3) ∧ ∃ b4, rv M v0 7 = some b4 ∧ inA M b4 0 v2 ∧ ∀ M7, M7 = sI M b4 (ix v2) (((((((1103515245 : Int32) * v1) + 12345).toUInt32 >>> ((16 : Int32).toUInt32 &&& Int32.toUInt32 31)).toInt32) &&& 32767) - ((((((1103515245 : Int32) * v1) + 12345).toUInt32 >>> ((16 : Int32).toUInt32 &&& Int32.toUInt32 31)).toInt32) &&& 32767) / 10 * 10) → P7 v0 (((1103515245 : Int32) * v1) + 12345) (v2 + 1) M7) → P7 v0 v1 v2 M) →
  kd M a0 = some (.inl 3) ∧ P7 a0 (iv M a0 21) 0 M
set_option maxHeartbeats 4000000 in
theorem m_X3_draws {l : Launch} (hl : l.stackTraces = false) {G : gG} {a0 : Nat} {M : gM} {K : gM → Prop} (hf : f_X3_draws a0 M K) : gMet l G yX3_draws (ws_ yX3_draws cX3_draws 3 none) ({ frames := 0, cells := 0, slots := 0, locals := 0 }) M [.ref a0] (kV K) kN := by
  refine gm_of hl (ret := none) rfl (Nat.le_of_ble_eq_true rfl) (fun X h hq => ?_)
  have h : hX l G X cX3_draws 3 "GlacierMail$State" 0 0 := h
  have hf := hf
  show V l G X 0 0 M 0 [(0, .ref a0)] []
  have hf := hf
    (fun v0 v1 v2 M => V l G X 0 0 M 7 [(0, .ref v0), (1, .int v1), (2, .int v2)] [])
    (by
      intro v0 v1 v2 M hf
      show V l G X 0 0 M 7 [(0, .ref v0), (1, .int v1), (2, .int v2)] []
      refine r_iload_n h 2 dX3_draws_7 rfl rfl ?_
      refine r_sipush (v := 300) h dX3_draws_8 (by decide) ?_
      refine r_icmp_ge (tgt := 46) h dX3_draws_11 (by decide) (fun c2 => ?_) (fun c2 => ?_)
      · have hf := ite_t c2 hf
        exact r_return h hq dX3_draws_46 ⟨rfl, hf⟩
      · have hf := ite_f c2 hf
        refine r_ldc (v := 1103515245) h dX3_draws_14 q319 ?_
        refine r_iload_n h 1 dX3_draws_16 rfl rfl ?_
        refine r_imul h dX3_draws_17 ?_
        refine r_sipush (v := 12345) h dX3_draws_18 (by decide) ?_
        refine r_iadd h dX3_draws_21 ?_
        refine r_istore_n (lv' := [(1, .int (((1103515245 : Int32) * v1) + 12345)), (0, .ref v0), (2, .int v2)]) h dX3_draws_22 rfl (by decide) rfl ?_
        refine r_aload_n h 1 dX3_draws_23 rfl rfl ?_
        obtain ⟨k3, hf⟩ := hf
        obtain ⟨b4, e5, hf⟩ := hf
        refine g338 h dX3_draws_24 k3 e5 ?_
        refine r_iload_n h 2 dX3_draws_27 rfl rfl ?_
        refine r_iload_n h 0 dX3_draws_28 rfl rfl ?_
        refine r_bipush (v := 16) h dX3_draws_29 (by decide) ?_
        refine r_iushr h dX3_draws_31 ?_
        refine r_sipush (v := 32767) h dX3_draws_32 (by decide) ?_
        refine r_iand h dX3_draws_35 ?_
        refine r_bipush (v := 10) h dX3_draws_36 (by decide) ?_
        refine r_irem h dX3_draws_38 (by decide) ?_
        obtain ⟨j6, hf⟩ := hf
        refine r_iastore h dX3_draws_39 j6 ?_
        refine r_goW (fun M7 eM7 => ?_)
        have hf := hf M7 eM7
        refine r_iinc (v := v2 + 1) (lv' := [(2, .int (v2 + 1)), (1, .int (((1103515245 : Int32) * v1) + 12345)), (0, .ref v0)]) h 2 dX3_draws_40 rfl rfl (by decide) rfl ?_
        refine r_goto (tgt := 7) h dX3_draws_43 (by decide) ?_
        exact V.sub [2, 1, 0] rfl hf)
  refine r_aload_n h 0 dX3_draws_0 rfl rfl ?_
  obtain ⟨k1, hf⟩ := hf
  refine g376 h dX3_draws_1 k1 ?_
  refine r_istore_n (lv' := [(1, .int (iv M a0 21)), (0, .ref a0)]) h dX3_draws_4 rfl (by decide) rfl ?_
  refine r_iconst (v := 0) h dX3_draws_5 (by decide) ?_
  refine r_istore_n (lv' := [(2, .int 0), (1, .int (iv M a0 21)), (0, .ref a0)]) h dX3_draws_6 rfl (by decide) rfl ?_
  exact V.sub [2, 1, 0] rfl hf
theorem c315 {l : Launch} {G : gG} {X : gX} {cc : ByteArray} {nL F L bc bs pc : Nat} {M : gM} {lv : List (Nat × Value)} {rest : List Value} {a0 : Nat} {K : gM → Prop} (hl : l.stackTraces = false) (h : hX l G X cc nL "GlacierMail$State" F L) (d : decode cc pc = .ok (.invokevirtual 80, 3)) (hk : kd M a0 = some (.inl 3)) (hf : f_X3_draws a0 M K) (hst : (rest.map fun v => v.category).sum ≤ 8) (hF : 1 ≤ F) (hL : 22 ≤ L) (kk : ∀ M1, K M1 → V l G X bc bs M1 (pc + 3) lv rest) : V l G X bc bs M pc lv (.ref a0 :: rest) := r_callV (n := 0) (As := []) h (m_X3_draws hl hf) 3 rfl hk rfl ⟨by decide, by decide, by decide +kernel⟩ d q315 q316 q317 q137 q318 rfl rfl hst hF hL (Nat.zero_le _) (Nat.zero_le _) (kV_go kk) kN_go
theorem c961 {l : Launch} {G : gG} {X : gX} {cc : ByteArray} {nL F L bc bs pc : Nat} {M : gM} {lv : List (Nat × Value)} {rest : List Value} {a0 : Nat} {K : gM → Prop} (hl : l.stackTraces = false) (h : hX l G X cc nL "GlacierMail$Reader" F L) (d : decode cc pc = .ok (.invokevirtual 112, 3)) (hk : kd M a0 = some (.inl 3)) (hf : f_X3_draws a0 M K) (hst : (rest.map fun v => v.category).sum ≤ 8) (hF : 1 ≤ F) (hL : 22 ≤ L) (kk : ∀ M1, K M1 → V l G X bc bs M1 (pc + 3) lv rest) : V l G X bc bs M pc lv (.ref a0 :: rest) := r_callV (n := 0) (As := []) h (m_X3_draws hl hf) 3 rfl hk rfl ⟨by decide, by decide, by decide +kernel⟩ d q961 q316 q317 q137 q318 rfl rfl hst hF hL (Nat.zero_le _) (Nat.zero_le _) (kV_go kk) kN_go
def f_X2_valley (a0 : Nat) (a1 : Int32) (a2 : Nat) (M : gM) (K : Nat → gM → Prop) (KX : Addr → String → gM → Prop) : Prop :=
  ∀ P16 : Nat → Int32 → gM → Prop,
  (∀ (v0 : Nat) (v3 : Int32) (M : gM), (kd M v0 = some (.inl 2) ∧ f_X2_more v0 v3 14 M (fun x10 M9 => if x10 = 0 then kd M9 v0 = some (.inl 2) ∧ ∃ b13, rv M9 v0 4 = some b13 ∧ kd M9 b13 = some (.inl 3) ∧ f_X3_draws b13 M9 (fun M16 => kd M16 v0 = some (.inl 2) ∧ ∃ b18, rv M16 v0 4 = some b18 ∧ K b18 M16) else kd M9 v0 = some (.inl 2) ∧ f_X2_line v0 M9 (fun M21 => P16 v0 (v3 + 1) M21) KX) KX) → P16 v0 v3 M) →
  kd M a0 = some (.inl 2) ∧ f_X2_begins a0 a1 4 M (fun M2 => kd M2 a0 = some (.inl 2) ∧ ∃ b4, rv M2 a0 4 = some b4 ∧ kd M2 b4 = some (.inl 3) ∧ f_X3_be b4 a2 M2 (fun M7 => P16 a0 0 M7))
set_option maxHeartbeats 4000000 in
theorem m_X2_valley {l : Launch} (hl : l.stackTraces = false) {G : gG} {a0 : Nat} {a1 : Int32} {a2 : Nat} {M : gM} {K : Nat → gM → Prop} {KX : Addr → String → gM → Prop} (hf : f_X2_valley a0 a1 a2 M K KX) : gMet l G yX2_valley (ws_ yX2_valley cX2_valley 4 (some (Jvm.ClassFile.FieldType.object "GlacierMail$State"))) ({ frames := 7, cells := 0, slots := 0, locals := 155 }) M [.ref a0, .int a1, .ref a2] (kA K) KX := by
  refine gm_of hl (ret := (some (Jvm.ClassFile.FieldType.object "GlacierMail$State"))) rfl (Nat.le_of_ble_eq_true rfl) (fun X h hq => ?_)
  have h : hX l G X cX2_valley 4 "GlacierMail$Reader" 7 155 := h
  have hf := hf
  show V l G X 0 0 M 0 [(0, .ref a0), (1, .int a1), (2, .ref a2)] []
  have hf := hf
    (fun v0 v3 M => V l G X 0 0 M 16 [(0, .ref v0), (3, .int v3)] [])
    (by
      intro v0 v3 M hf
      show V l G X 0 0 M 16 [(0, .ref v0), (3, .int v3)] []
      refine r_aload_n h 0 dX2_valley_16 rfl rfl ?_
      refine r_iload_n h 1 dX2_valley_17 rfl rfl ?_
      refine r_bipush (v := 14) h dX2_valley_18 (by decide) ?_
      obtain ⟨k8, hf⟩ := hf
      refine c842 hl h dX2_valley_20 k8 hf (Nat.le_of_ble_eq_true rfl) (by decide) (by decide) (fun x10 M9 hf => ?_) (fun q9 E9 M9 hf => r_out h hq hf)
      refine r_if_eq (tgt := 36) h dX2_valley_23 (by decide) (fun c11 => ?_) (fun c11 => ?_)
      · have hf := ite_t c11 hf
        refine r_aload_n h 0 dX2_valley_36 rfl rfl ?_
        obtain ⟨k12, hf⟩ := hf
        obtain ⟨b13, e14, hf⟩ := hf
        refine g513 h dX2_valley_37 k12 e14 ?_
        obtain ⟨k15, hf⟩ := hf
        refine c961 hl h dX2_valley_40 k15 hf (Nat.le_of_ble_eq_true rfl) (by decide) (by decide) (fun M16 hf => ?_)
        refine r_aload_n h 0 dX2_valley_43 rfl rfl ?_
        obtain ⟨k17, hf⟩ := hf
        obtain ⟨b18, e19, hf⟩ := hf
        refine g513 h dX2_valley_44 k17 e19 ?_
        exact r_areturn h hq dX2_valley_47 ⟨_, rfl, hf⟩
      · have hf := ite_f c11 hf
        refine r_aload_n h 0 dX2_valley_26 rfl rfl ?_
        obtain ⟨k20, hf⟩ := hf
        refine c854 hl h dX2_valley_27 k20 hf (Nat.le_of_ble_eq_true rfl) (by decide) (by decide) (fun M21 hf => ?_) (fun q9 E9 M9 hf => r_out h hq hf)
        refine r_iinc (v := v3 + 1) (lv' := [(3, .int (v3 + 1)), (0, .ref v0)]) h 1 dX2_valley_30 rfl rfl (by decide) rfl ?_
        refine r_goto (tgt := 16) h dX2_valley_33 (by decide) ?_
        exact V.sub [1, 0] rfl hf)
  refine r_aload_n h 0 dX2_valley_0 rfl rfl ?_
  refine r_iload_n h 1 dX2_valley_1 rfl rfl ?_
  refine r_iconst (v := 4) h dX2_valley_2 (by decide) ?_
  obtain ⟨k1, hf⟩ := hf
  refine c837 hl h dX2_valley_3 k1 hf (Nat.le_of_ble_eq_true rfl) (by decide) (by decide) (fun M2 hf => ?_)
  refine r_aload_n h 0 dX2_valley_6 rfl rfl ?_
  obtain ⟨k3, hf⟩ := hf
  obtain ⟨b4, e5, hf⟩ := hf
  refine g513 h dX2_valley_7 k3 e5 ?_
  refine r_aload_n h 2 dX2_valley_10 rfl rfl ?_
  obtain ⟨k6, hf⟩ := hf
  refine c841 hl h dX2_valley_11 k6 hf (Nat.le_of_ble_eq_true rfl) (by decide) (by decide) (fun M7 hf => ?_)
  refine r_iconst (v := 0) h dX2_valley_14 (by decide) ?_
  refine r_istore_n (lv' := [(3, .int 0), (0, .ref a0), (1, .int a1), (2, .ref a2)]) h dX2_valley_15 rfl (by decide) rfl ?_
  exact V.sub [1, 0] rfl hf
theorem c833 {l : Launch} {G : gG} {X : gX} {cc : ByteArray} {nL F L bc bs pc : Nat} {M : gM} {lv : List (Nat × Value)} {rest : List Value} {a0 : Nat} {a1 : Int32} {a2 : Nat} {K : Nat → gM → Prop} {KX : Addr → String → gM → Prop} (hl : l.stackTraces = false) (h : hX l G X cc nL "GlacierMail" F L) (d : decode cc pc = .ok (.invokevirtual 134, 3)) (hk : kd M a0 = some (.inl 2)) (hf : f_X2_valley a0 a1 a2 M K KX) (hst : (rest.map fun v => v.category).sum ≤ 8) (hF : 8 ≤ F) (hL : 178 ≤ L) (kk : ∀ x M1, K x M1 → V l G X bc bs M1 (pc + 3) lv (.ref x :: rest)) (kx : ∀ q E M1, KX q E M1 → VX l G X bc bs M1 pc lv q E) : V l G X bc bs M pc lv (.ref a2 :: .int a1 :: .ref a0 :: rest) := r_callV (n := 2) (As := [.int a1, .ref a2]) h (m_X2_valley hl hf) 2 rfl hk rfl ⟨by decide, by decide, by decide +kernel⟩ d q833 q834 q835 q136 q836 rfl rfl hst hF hL (Nat.zero_le _) (Nat.zero_le _) (kA_go kk) kx
def f_X1_isWrong (a0 : Nat) (a1 : Nat) (M : gM) (K : Nat → gM → Prop) : Prop :=
  kd M a1 = some (.inl 8) ∧ kd M a0 = some (.inl 1) ∧ ∀ M3, M3 = sI M a0 11 (iv M a1 6) → ∀ n4, sz M3 < n4 → ∀ M5, M5 = sZ (sN M3 (.inl 19)) n4 → K (sz M3) M5
set_option maxHeartbeats 4000000 in
theorem m_X1_isWrong {l : Launch} (hl : l.stackTraces = false) {G : gG} {a0 : Nat} {a1 : Nat} {M : gM} {K : Nat → gM → Prop} (hf : f_X1_isWrong a0 a1 M K) : gMet l G yX1_isWrong (ws_ yX1_isWrong cX1_isWrong 2 (some (Jvm.ClassFile.FieldType.object "java/lang/IllegalArgumentException"))) ({ frames := 12, cells := 1, slots := 6, locals := 200 }) M [.ref a0, .ref a1] (kA K) kN := by
  refine gm_of hl (ret := (some (Jvm.ClassFile.FieldType.object "java/lang/IllegalArgumentException"))) rfl (Nat.le_of_ble_eq_true rfl) (fun X h hq => ?_)
  have h : hX l G X cX1_isWrong 2 "GlacierMail" 12 200 := h
  have hf := hf
  show V l G X 1 6 M 0 [(0, .ref a0), (1, .ref a1)] []
  unfold f_X1_isWrong at hf
  refine r_aload_n h 0 dX1_isWrong_0 rfl rfl ?_
  refine r_aload_n h 1 dX1_isWrong_1 rfl rfl ?_
  obtain ⟨k1, hf⟩ := hf
  refine g491 h dX1_isWrong_2 k1 ?_
  obtain ⟨k2, hf⟩ := hf
  refine p584 h dX1_isWrong_5 k2 ?_
  refine r_goW (fun M3 eM3 => ?_)
  have hf := hf M3 eM3
  refine y966 h dX1_isWrong_8 dX1_isWrong_11 dX1_isWrong_12 (by decide) (by decide) (by decide) (by decide) (Nat.le_of_ble_eq_true rfl) (fun n4 hn => ?_)
  have hf := hf n4 hn
  refine r_goW (fun M5 eM5 => ?_)
  have hf := hf M5 eM5
  exact r_areturn h hq dX1_isWrong_15 ⟨_, rfl, hf⟩
theorem c962 {l : Launch} {G : gG} {X : gX} {cc : ByteArray} {nL F L bc bs pc : Nat} {M : gM} {lv : List (Nat × Value)} {rest : List Value} {a0 : Nat} {a1 : Nat} {K : Nat → gM → Prop} (hl : l.stackTraces = false) (h : hX l G X cc nL "GlacierMail" F L) (d : decode cc pc = .ok (.invokevirtual 138, 3)) (hk : kd M a0 = some (.inl 1)) (hf : f_X1_isWrong a0 a1 M K) (hst : (rest.map fun v => v.category).sum ≤ 8) (hF : 13 ≤ F) (hL : 221 ≤ L) (h1 : 1 ≤ bc) (h2 : 6 ≤ bs) (kk : ∀ x M1, K x M1 → V l G X (bc - 1) (bs - 6) M1 (pc + 3) lv (.ref x :: rest)) : V l G X bc bs M pc lv (.ref a1 :: .ref a0 :: rest) := r_callV (n := 1) (As := [.ref a1]) h (m_X1_isWrong hl hf) 1 rfl hk rfl ⟨by decide, by decide, by decide +kernel⟩ d q962 q964 qs23 q135 q965 rfl rfl hst hF hL h1 h2 (kA_go kk) kN_go
def f_X1_mayBe (a0 : Int32) (M : gM) (K : gM → Prop) (KX : Addr → String → gM → Prop) : Prop :=
  if a0 = 0 then ∀ n2, sz M ≤ n2 → KX (sz M) "java/lang/UnsupportedOperationException" (sZ M n2) else K M
set_option maxHeartbeats 4000000 in
theorem m_X1_mayBe {l : Launch} (hl : l.stackTraces = false) {G : gG} {a0 : Int32} {M : gM} {K : gM → Prop} {KX : Addr → String → gM → Prop} (hf : f_X1_mayBe a0 M K KX) : gMet l G yX1_mayBe (ws_ yX1_mayBe cX1_mayBe 1 none) ({ frames := 12, cells := 1, slots := 6, locals := 200 }) M [.int a0] (kV K) KX := by
  refine gm_of hl (ret := none) rfl (Nat.le_of_ble_eq_true rfl) (fun X h hq => ?_)
  have h : hX l G X cX1_mayBe 1 "GlacierMail" 12 200 := h
  have hf := hf
  show V l G X 1 6 M 0 [(0, .int a0)] []
  unfold f_X1_mayBe at hf
  refine r_iload_n h 0 dX1_mayBe_0 rfl rfl ?_
  refine r_if_ne (tgt := 12) h dX1_mayBe_1 (by decide) (fun c1 => ?_) (fun c1 => ?_)
  · have hf := ite_f c1 hf
    exact r_return h hq dX1_mayBe_12 ⟨rfl, hf⟩
  · have hf := ite_t c1 hf
    exact x990 h hq dX1_mayBe_4 dX1_mayBe_7 dX1_mayBe_8 dX1_mayBe_11 (by decide) (by decide) (by decide) (by decide) (Nat.le_of_ble_eq_true rfl) (fun n2 hn => hf n2 hn)
theorem c987 {l : Launch} {G : gG} {X : gX} {cc : ByteArray} {nL F L bc bs pc : Nat} {M : gM} {lv : List (Nat × Value)} {rest : List Value} {a0 : Int32} {K : gM → Prop} {KX : Addr → String → gM → Prop} (hl : l.stackTraces = false) (h : hX l G X cc nL "GlacierMail" F L) (d : decode cc pc = .ok (.invokestatic 145, 3)) (hf : f_X1_mayBe a0 M K KX) (hst : (rest.map fun v => v.category).sum ≤ 8) (hF : 13 ≤ F) (hL : 220 ≤ L) (h1 : 1 ≤ bc) (h2 : 6 ≤ bs) (kk : ∀ M1, K M1 → V l G X (bc - 1) (bs - 6) M1 (pc + 3) lv rest) (kx : ∀ q E M1, KX q E M1 → VX l G X (bc - 1) (bs - 6) M1 pc lv q E) : V l G X bc bs M pc lv (.int a0 :: rest) := r_callS (n := 1) (As := [.int a0]) h (m_X1_mayBe hl hf) ⟨by decide, by decide, by decide +kernel⟩ d q987 q988 q135 q989 rfl rfl hst hF hL h1 h2 (kV_go kk) kx
def f_X1_valley (a0 : Nat) (M : gM) (K : Int32 → gM → Prop) (KX : Addr → String → gM → Prop) : Prop :=
  ∀ P50 : Nat → Nat → Int32 → gM → Prop,
  (∀ (v0 : Nat) (v2 : Nat) (s0 : Int32) (M : gM), (f_X1_mayBe s0 M (fun M23 => kd M23 v0 = some (.inl 1) ∧ ∃ b25, rv M23 v0 1 = some b25 ∧ kd M23 b25 = some (.inl 3) ∧ f_X3_be b25 v2 M23 (fun M28 => kd M28 v0 = some (.inl 1) ∧ ∃ b30, rv M28 v0 1 = some b30 ∧ kd M28 b30 = some (.inl 3) ∧ ∀ M33, M33 = sI M28 b30 17 ((iv M28 b30 17) + 1) → kd M33 v0 = some (.inl 1) ∧ ∀ M35, M35 = sI M33 v0 12 0 → kd M35 v0 = some (.inl 1) ∧ ∀ M37, M37 = sI M35 v0 14 (-1) → kd M37 v0 = some (.inl 1) ∧ ∃ b39, rv M37 v0 1 = some b39 ∧ kd M37 b39 = some (.inl 3) ∧ K (iv M37 b39 17) M37)) KX) → P50 v0 v2 s0 M) →
  kd M a0 = some (.inl 1) ∧ f_X1_took a0 M (fun x3 M2 => kd M2 a0 = some (.inl 1) ∧ ∀ M5, M5 = sI M2 a0 11 (-1) → kd M5 a0 = some (.inl 1) ∧ ∃ b7, rv M5 a0 0 = some b7 ∧ ∃ b9, rv M5 a0 1 = some b9 ∧ kd M5 b7 = some (.inl 2) ∧ f_X2_valley b7 x3 b9 M5 (fun b13 M12 => kd M12 a0 = some (.inl 1) ∧ ∃ b15, rv M12 a0 1 = some b15 ∧ kd M12 b15 = some (.inl 3) ∧ if 12 ≤ (iv M12 b15 17) then P50 a0 b13 0 M12 else P50 a0 b13 1 M12) (fun q9 E9 M9 => (E9 = "GlacierMail$Wrong" ∧ kd M9 a0 = some (.inl 1) ∧ f_X1_isWrong a0 q9 M9 (fun b21 M20 => kd M20 b21 = some (.inl 19) ∧ KX b21 "java/lang/IllegalArgumentException" M20))))
set_option maxHeartbeats 4000000 in
theorem m_X1_valley {l : Launch} (hl : l.stackTraces = false) {G : gG} {a0 : Nat} {M : gM} {K : Int32 → gM → Prop} {KX : Addr → String → gM → Prop} (hf : f_X1_valley a0 M K KX) : gMet l G yX1_valley (wsW_ yX1_valley cX1_valley 4 (some Jvm.ClassFile.FieldType.int) [(10, 23, 26, 126)]) ({ frames := 13, cells := 1, slots := 6, locals := 221 }) M [.ref a0] (kI K) KX := by
  refine gm_ofH hl (ret := (some Jvm.ClassFile.FieldType.int)) rfl (Nat.le_of_ble_eq_true rfl) (fun X h hq => ?_)
  have h : hX l G X cX1_valley 4 "GlacierMail" 13 221 := h
  have hf := hf
  show V l G X 1 6 M 0 [(0, .ref a0)] []
  have hf := hf
    (fun v0 v2 s0 M => V l G X 1 6 M 50 [(0, .ref v0), (2, .ref v2)] [.int s0])
    (by
      intro v0 v2 s0 M hf
      show V l G X 1 6 M 50 [(0, .ref v0), (2, .ref v2)] [.int s0]
      refine c987 hl h dX1_valley_50 hf (Nat.le_of_ble_eq_true rfl) (by decide) (by decide) (by decide) (by decide) (fun M23 hf => ?_) (fun q9 E9 M9 hf => r_outH h hq (by decide) hf)
      refine r_aload_n h 0 dX1_valley_53 rfl rfl ?_
      obtain ⟨k24, hf⟩ := hf
      obtain ⟨b25, e26, hf⟩ := hf
      refine g573 h dX1_valley_54 k24 e26 ?_
      refine r_aload_n h 1 dX1_valley_57 rfl rfl ?_
      obtain ⟨k27, hf⟩ := hf
      refine c771 hl h dX1_valley_58 k27 hf (Nat.le_of_ble_eq_true rfl) (by decide) (by decide) (fun M28 hf => ?_)
      refine r_aload_n h 0 dX1_valley_61 rfl rfl ?_
      obtain ⟨k29, hf⟩ := hf
      obtain ⟨b30, e31, hf⟩ := hf
      refine g573 h dX1_valley_62 k29 e31 ?_
      refine r_dup h dX1_valley_65 rfl ?_
      obtain ⟨k32, hf⟩ := hf
      refine g366 h dX1_valley_66 k32 ?_
      refine r_iconst (v := 1) h dX1_valley_69 (by decide) ?_
      refine r_iadd h dX1_valley_70 ?_
      refine p366 h dX1_valley_71 k32 ?_
      refine r_goW (fun M33 eM33 => ?_)
      have hf := hf M33 eM33
      refine r_aload_n h 0 dX1_valley_74 rfl rfl ?_
      refine r_iconst (v := 0) h dX1_valley_75 (by decide) ?_
      obtain ⟨k34, hf⟩ := hf
      refine p585 h dX1_valley_76 k34 ?_
      refine r_goW (fun M35 eM35 => ?_)
      have hf := hf M35 eM35
      refine r_aload_n h 0 dX1_valley_79 rfl rfl ?_
      refine r_iconst (v := (-1)) h dX1_valley_80 (by decide) ?_
      obtain ⟨k36, hf⟩ := hf
      refine p587 h dX1_valley_81 k36 ?_
      refine r_goW (fun M37 eM37 => ?_)
      have hf := hf M37 eM37
      refine r_aload_n h 0 dX1_valley_84 rfl rfl ?_
      obtain ⟨k38, hf⟩ := hf
      obtain ⟨b39, e40, hf⟩ := hf
      refine g573 h dX1_valley_85 k38 e40 ?_
      obtain ⟨k41, hf⟩ := hf
      refine g366 h dX1_valley_88 k41 ?_
      exact r_ireturn h hq dX1_valley_91 ⟨_, rfl, hf⟩)
  refine r_aload_n h 0 dX1_valley_0 rfl rfl ?_
  obtain ⟨k1, hf⟩ := hf
  refine c829 hl h dX1_valley_1 k1 hf (Nat.le_of_ble_eq_true rfl) (by decide) (by decide) (fun x3 M2 hf => ?_)
  refine r_istore_n (lv' := [(1, .int x3), (0, .ref a0)]) h dX1_valley_4 rfl (by decide) rfl ?_
  refine r_aload_n h 1 dX1_valley_5 rfl rfl ?_
  refine r_iconst (v := (-1)) h dX1_valley_6 (by decide) ?_
  obtain ⟨k4, hf⟩ := hf
  refine p584 h dX1_valley_7 k4 ?_
  refine r_goW (fun M5 eM5 => ?_)
  have hf := hf M5 eM5
  refine r_aload_n h 1 dX1_valley_10 rfl rfl ?_
  obtain ⟨k6, hf⟩ := hf
  obtain ⟨b7, e8, hf⟩ := hf
  refine g572 h dX1_valley_11 k6 e8 ?_
  refine r_iload_n h 0 dX1_valley_14 rfl rfl ?_
  refine r_aload_n h 1 dX1_valley_15 rfl rfl ?_
  obtain ⟨b9, e10, hf⟩ := hf
  refine g573 h dX1_valley_16 k6 e10 ?_
  obtain ⟨k11, hf⟩ := hf
  refine c833 hl h dX1_valley_19 k11 hf (Nat.le_of_ble_eq_true rfl) (by decide) (by decide) (fun b13 M12 hf => ?_) (fun q9 E9 M9 hf => ?_)
  · skip
    refine r_astore_n (lv' := [(2, .ref b13), (1, .int x3), (0, .ref a0)]) h dX1_valley_22 rfl (by decide) rfl ?_
    refine r_goto (tgt := 33) h dX1_valley_23 (by decide) ?_
    refine r_aload_n h 2 dX1_valley_33 rfl rfl ?_
    obtain ⟨k14, hf⟩ := hf
    obtain ⟨b15, e16, hf⟩ := hf
    refine g573 h dX1_valley_34 k14 e16 ?_
    obtain ⟨k17, hf⟩ := hf
    refine g366 h dX1_valley_37 k17 ?_
    refine r_bipush (v := 12) h dX1_valley_40 (by decide) ?_
    refine r_icmp_ge (tgt := 49) h dX1_valley_42 (by decide) (fun c18 => ?_) (fun c18 => ?_)
    · have hf := ite_t c18 hf
      refine r_iconst (v := 0) h dX1_valley_49 (by decide) ?_
      exact V.sub [2, 0] rfl hf
    · have hf := ite_f c18 hf
      refine r_iconst (v := 1) h dX1_valley_45 (by decide) ?_
      refine r_goto (tgt := 50) h dX1_valley_46 (by decide) ?_
      exact V.sub [2, 0] rfl hf
  · rcases hf with ⟨rfl, hf⟩
    · refine r_catch h hq 0 (E := "GlacierMail$Wrong") (nm := "GlacierMail$Wrong") rfl (fun z hz => nomatch hz) (by decide) (by decide) q828 (List.mem_of_getElem? (i := 0) rfl) ?_
      refine r_astore_n (lv' := [(3, .ref q9), (1, .int x3), (0, .ref a0)]) h dX1_valley_26 rfl (by decide) rfl ?_
      refine r_aload_n h 2 dX1_valley_27 rfl rfl ?_
      refine r_aload_n h 0 dX1_valley_28 rfl rfl ?_
      obtain ⟨k19, hf⟩ := hf
      refine c962 hl h dX1_valley_29 k19 hf (Nat.le_of_ble_eq_true rfl) (by decide) (by decide) (by decide) (by decide) (fun b21 M20 hf => ?_)
      obtain ⟨k22, hf⟩ := hf
      exact r_athrow h 19 rfl dX1_valley_32 k22 (r_outH h hq (by decide) hf)
theorem c824 {l : Launch} {G : gG} {X : gX} {cc : ByteArray} {nL F L bc bs pc : Nat} {M : gM} {lv : List (Nat × Value)} {rest : List Value} {a0 : Nat} {K : Int32 → gM → Prop} {KX : Addr → String → gM → Prop} (hl : l.stackTraces = false) (h : hX l G X cc nL "GlacierMailLaw" F L) (d : decode cc pc = .ok (.invokevirtual 7, 3)) (hk : kd M a0 = some (.inl 1)) (hf : f_X1_valley a0 M K KX) (hst : (rest.map fun v => v.category).sum ≤ 8) (hF : 14 ≤ F) (hL : 244 ≤ L) (h1 : 1 ≤ bc) (h2 : 6 ≤ bs) (kk : ∀ x M1, K x M1 → V l G X (bc - 1) (bs - 6) M1 (pc + 3) lv (.int x :: rest)) (kx : ∀ q E M1, KX q E M1 → VX l G X (bc - 1) (bs - 6) M1 pc lv q E) : V l G X bc bs M pc lv (.ref a0 :: rest) := r_callVH (n := 0) (As := []) h (m_X1_valley hl hf) 1 rfl hk rfl ⟨by decide, by decide, by decide +kernel⟩ d q824 q825 q826 q135 q827 rfl rfl hst hF hL h1 h2 (kI_go kk) kx
def f_X0_valley (a0 : Nat) (a1 : Nat) (M : gM) (K : Int32 → gM → Prop) : Prop :=
  kd M a0 = some (.inl 1) ∧ f_X1_valley a0 M (fun x3 M2 => inA M2 a1 2 0 ∧ ∀ M5, M5 = sJ M2 a1 (ix 0) (x3.toInt64) → K 0 M5) (fun q9 E9 M9 => (E9 = "java/lang/IllegalArgumentException" ∧ K 1 M9) ∨ (E9 = "java/lang/UnsupportedOperationException" ∧ K 2 M9))
set_option maxHeartbeats 4000000 in
theorem m_X0_valley {l : Launch} (hl : l.stackTraces = false) {G : gG} {a0 : Nat} {a1 : Nat} {M : gM} {K : Int32 → gM → Prop} (hf : f_X0_valley a0 a1 M K) : gMet l G yX0_valley (wsW_ yX0_valley cX0_valley 3 (some Jvm.ClassFile.FieldType.int) [(0, 8, 11, 13), (0, 8, 14, 15)]) ({ frames := 14, cells := 1, slots := 6, locals := 244 }) M [.ref a0, .ref a1] (kI K) kN := by
  refine gm_ofH hl (ret := (some Jvm.ClassFile.FieldType.int)) rfl (Nat.le_of_ble_eq_true rfl) (fun X h hq => ?_)
  have h : hX l G X cX0_valley 3 "GlacierMailLaw" 14 244 := h
  have hf := hf
  show V l G X 1 6 M 0 [(0, .ref a0), (1, .ref a1)] []
  unfold f_X0_valley at hf
  refine r_aload_n h 1 dX0_valley_0 rfl rfl ?_
  refine r_iconst (v := 0) h dX0_valley_1 (by decide) ?_
  refine r_aload_n h 0 dX0_valley_2 rfl rfl ?_
  obtain ⟨k1, hf⟩ := hf
  refine c824 hl h dX0_valley_3 k1 hf (Nat.le_of_ble_eq_true rfl) (by decide) (by decide) (by decide) (by decide) (fun x3 M2 hf => ?_) (fun q9 E9 M9 hf => ?_)
  · skip
    refine r_i2l h dX0_valley_6 ?_
    obtain ⟨j4, hf⟩ := hf
    refine r_lastore h dX0_valley_7 j4 ?_
    refine r_goW (fun M5 eM5 => ?_)
    have hf := hf M5 eM5
    refine r_goto (tgt := 17) h dX0_valley_8 (by decide) ?_
    refine r_iconst (v := 0) h dX0_valley_17 (by decide) ?_
    exact r_ireturn h hq dX0_valley_18 ⟨_, rfl, hf⟩
  · rcases hf with ⟨rfl, hf⟩ | ⟨rfl, hf⟩
    · refine r_catch h hq 0 (E := "java/lang/IllegalArgumentException") (nm := "java/lang/IllegalArgumentException") rfl (fun z hz => nomatch hz) (by decide) (by decide) q822 (List.mem_of_getElem? (i := 5) rfl) ?_
      refine r_astore_n (lv' := [(2, .ref q9), (0, .ref a0), (1, .ref a1)]) h dX0_valley_11 rfl (by decide) rfl ?_
      refine r_iconst (v := 1) h dX0_valley_12 (by decide) ?_
      exact r_ireturn h hq dX0_valley_13 ⟨_, rfl, hf⟩
    · refine r_catch h hq 1 (E := "java/lang/UnsupportedOperationException") (nm := "java/lang/UnsupportedOperationException") rfl (List.forall_mem_cons.mpr ⟨Or.inr ⟨by decide, "java/lang/IllegalArgumentException", q822, List.mem_of_getElem? (i := 1) rfl⟩, List.forall_mem_nil _⟩) (by decide) (by decide) q823 (List.mem_of_getElem? (i := 6) rfl) ?_
      refine r_astore_n (lv' := [(2, .ref q9), (0, .ref a0), (1, .ref a1)]) h dX0_valley_14 rfl (by decide) rfl ?_
      refine r_iconst (v := 2) h dX0_valley_15 (by decide) ?_
      exact r_ireturn h hq dX0_valley_16 ⟨_, rfl, hf⟩
theorem c819 {l : Launch} {G : gG} {X : gX} {cc : ByteArray} {nL F L bc bs pc : Nat} {M : gM} {lv : List (Nat × Value)} {rest : List Value} {a0 : Nat} {a1 : Nat} {K : Int32 → gM → Prop} (hl : l.stackTraces = false) (h : hX l G X cc nL "GlacierMailLaw" F L) (d : decode cc pc = .ok (.invokestatic 149, 3)) (hf : f_X0_valley a0 a1 M K) (hst : (rest.map fun v => v.category).sum ≤ 8) (hF : 15 ≤ F) (hL : 266 ≤ L) (h1 : 1 ≤ bc) (h2 : 6 ≤ bs) (kk : ∀ x M1, K x M1 → V l G X (bc - 1) (bs - 6) M1 (pc + 3) lv (.int x :: rest)) : V l G X bc bs M pc lv (.ref a1 :: .ref a0 :: rest) := r_callSH (n := 2) (As := [.ref a0, .ref a1]) h (m_X0_valley hl hf) ⟨by decide, by decide, by decide +kernel⟩ d q819 q820 q134 q821 rfl rfl hst hF hL h1 h2 (kI_go kk) kN_go
def f_X2_isFigure (a0 : Nat) (M : gM) (K : Int32 → gM → Prop) : Prop :=
  kd M a0 = some (.inl 2) ∧ f_X2_sign a0 M (fun x3 M2 => if x3 < 48 then K 0 M2 else if 57 < x3 then K 0 M2 else K 1 M2)
set_option maxHeartbeats 4000000 in
theorem m_X2_isFigure {l : Launch} (hl : l.stackTraces = false) {G : gG} {a0 : Nat} {M : gM} {K : Int32 → gM → Prop} (hf : f_X2_isFigure a0 M K) : gMet l G yX2_isFigure (ws_ yX2_isFigure cX2_isFigure 2 (some Jvm.ClassFile.FieldType.boolean)) ({ frames := 1, cells := 0, slots := 0, locals := 20 }) M [.ref a0] (kI K) kN := by
  refine gm_of hl (ret := (some Jvm.ClassFile.FieldType.boolean)) rfl (Nat.le_of_ble_eq_true rfl) (fun X h hq => ?_)
  have h : hX l G X cX2_isFigure 2 "GlacierMail$Reader" 1 20 := h
  have hf := hf
  show V l G X 0 0 M 0 [(0, .ref a0)] []
  unfold f_X2_isFigure at hf
  refine r_aload_n h 0 dX2_isFigure_0 rfl rfl ?_
  obtain ⟨k1, hf⟩ := hf
  refine c846 hl h dX2_isFigure_1 k1 hf (Nat.le_of_ble_eq_true rfl) (by decide) (by decide) (fun x3 M2 hf => ?_)
  refine r_istore_n (lv' := [(1, .int x3), (0, .ref a0)]) h dX2_isFigure_4 rfl (by decide) rfl ?_
  refine r_iload_n h 0 dX2_isFigure_5 rfl rfl ?_
  refine r_bipush (v := 48) h dX2_isFigure_6 (by decide) ?_
  refine r_icmp_lt (tgt := 21) h dX2_isFigure_8 (by decide) (fun c4 => ?_) (fun c4 => ?_)
  · have hf := ite_t c4 hf
    refine r_iconst (v := 0) h dX2_isFigure_21 (by decide) ?_
    exact r_zreturn h hq dX2_isFigure_22 (by decide) ⟨_, rfl, hf⟩
  · have hf := ite_f c4 hf
    refine r_iload_n h 0 dX2_isFigure_11 rfl rfl ?_
    refine r_bipush (v := 57) h dX2_isFigure_12 (by decide) ?_
    refine r_icmp_gt (tgt := 21) h dX2_isFigure_14 (by decide) (fun c5 => ?_) (fun c5 => ?_)
    · have hf := ite_t c5 hf
      refine r_iconst (v := 0) h dX2_isFigure_21 (by decide) ?_
      exact r_zreturn h hq dX2_isFigure_22 (by decide) ⟨_, rfl, hf⟩
    · have hf := ite_f c5 hf
      refine r_iconst (v := 1) h dX2_isFigure_17 (by decide) ?_
      refine r_goto (tgt := 22) h dX2_isFigure_18 (by decide) ?_
      exact r_zreturn h hq dX2_isFigure_22 (by decide) ⟨_, rfl, hf⟩
theorem c1068 {l : Launch} {G : gG} {X : gX} {cc : ByteArray} {nL F L bc bs pc : Nat} {M : gM} {lv : List (Nat × Value)} {rest : List Value} {a0 : Nat} {K : Int32 → gM → Prop} (hl : l.stackTraces = false) (h : hX l G X cc nL "GlacierMail$Reader" F L) (d : decode cc pc = .ok (.invokevirtual 310, 3)) (hk : kd M a0 = some (.inl 2)) (hf : f_X2_isFigure a0 M K) (hst : (rest.map fun v => v.category).sum ≤ 8) (hF : 2 ≤ F) (hL : 41 ≤ L) (kk : ∀ x M1, K x M1 → V l G X bc bs M1 (pc + 3) lv (.int x :: rest)) : V l G X bc bs M pc lv (.ref a0 :: rest) := r_callV (n := 0) (As := []) h (m_X2_isFigure hl hf) 2 rfl hk rfl ⟨by decide, by decide, by decide +kernel⟩ d q1068 q1070 qs29 q136 q1071 rfl rfl hst hF hL (Nat.zero_le _) (Nat.zero_le _) (kI_go kk) kN_go
def f_X2_part (a0 : Nat) (a1 : Nat) (M : gM) (K : gM → Prop) (KX : Addr → String → gM → Prop) : Prop :=
  ∀ P27 : Nat → Nat → Int32 → gM → Prop,
  (∀ (v0 : Nat) (v1 : Nat) (v2 : Int32) (M : gM), (if 8 ≤ v2 then kd M v0 = some (.inl 2) ∧ f_X2_fail v0 (iv M v0 8) M (fun M13 => K M13) KX else kd M v0 = some (.inl 2) ∧ ∃ b15, rv M v0 1 = some b15 ∧ inA M b15 3 v2 ∧ ∃ b18, rv M b15 (ix v2) = some b18 ∧ f_X2_takes v0 b18 M (fun x21 M20 => if x21 = 0 then P27 v0 v1 (v2 + 1) M20 else kd M20 v1 = some (.inl 13) ∧ ∃ b24, rv M20 v1 0 = some b24 ∧ inA M20 b24 0 v2 ∧ inA M20 b24 0 v2 ∧ ∀ M28, M28 = sI M20 b24 (ix v2) ((iv M20 b24 (ix v2)) + 1) → K M28)) → P27 v0 v1 v2 M) →
  kd M a0 = some (.inl 2) ∧ f_X2_isFigure a0 M (fun x3 M2 => if x3 = 0 then P27 a0 a1 0 M2 else kd M2 a1 = some (.inl 13) ∧ kd M2 a0 = some (.inl 2) ∧ f_X2_number a0 0 999 M2 (fun x8 M7 => kd M7 a1 = some (.inl 13) ∧ ∀ M10, M10 = sI M7 a1 1 ((iv M2 a1 1) + x8) → K M10) KX)
set_option maxHeartbeats 4000000 in
theorem m_X2_part {l : Launch} (hl : l.stackTraces = false) {G : gG} {a0 : Nat} {a1 : Nat} {M : gM} {K : gM → Prop} {KX : Addr → String → gM → Prop} (hf : f_X2_part a0 a1 M K KX) : gMet l G yX2_part (ws_ yX2_part cX2_part 3 none) ({ frames := 5, cells := 0, slots := 0, locals := 110 }) M [.ref a0, .ref a1] (kV K) KX := by
  refine gm_of hl (ret := none) rfl (Nat.le_of_ble_eq_true rfl) (fun X h hq => ?_)
  have h : hX l G X cX2_part 3 "GlacierMail$Reader" 5 110 := h
  have hf := hf
  show V l G X 0 0 M 0 [(0, .ref a0), (1, .ref a1)] []
  have hf := hf
    (fun v0 v1 v2 M => V l G X 0 0 M 27 [(0, .ref v0), (1, .ref v1), (2, .int v2)] [])
    (by
      intro v0 v1 v2 M hf
      show V l G X 0 0 M 27 [(0, .ref v0), (1, .ref v1), (2, .int v2)] []
      refine r_iload_n h 2 dX2_part_27 rfl rfl ?_
      refine r_bipush (v := 8) h dX2_part_28 (by decide) ?_
      refine r_icmp_ge (tgt := 66) h dX2_part_30 (by decide) (fun c11 => ?_) (fun c11 => ?_)
      · have hf := ite_t c11 hf
        refine r_aload_n h 0 dX2_part_66 rfl rfl ?_
        refine r_aload_n h 0 dX2_part_67 rfl rfl ?_
        obtain ⟨k12, hf⟩ := hf
        refine g517 h dX2_part_68 k12 ?_
        refine c850 hl h dX2_part_71 k12 hf (Nat.le_of_ble_eq_true rfl) (by decide) (by decide) (fun M13 hf => ?_) (fun q9 E9 M9 hf => r_out h hq hf)
        exact r_return h hq dX2_part_74 ⟨rfl, hf⟩
      · have hf := ite_f c11 hf
        refine r_aload_n h 0 dX2_part_33 rfl rfl ?_
        refine r_aload_n h 0 dX2_part_34 rfl rfl ?_
        obtain ⟨k14, hf⟩ := hf
        obtain ⟨b15, e16, hf⟩ := hf
        refine g509 h dX2_part_35 k14 e16 ?_
        refine r_iload_n h 2 dX2_part_38 rfl rfl ?_
        obtain ⟨j17, b18, e19, hf⟩ := hf
        refine r_aaload h 3 (by decide) (by decide) dX2_part_39 j17 (v := .ref b18) (by rw [e19]; rfl) ?_
        refine c859 hl h dX2_part_40 k14 hf (Nat.le_of_ble_eq_true rfl) (by decide) (by decide) (fun x21 M20 hf => ?_)
        refine r_if_ne (tgt := 49) h dX2_part_43 (by decide) (fun c22 => ?_) (fun c22 => ?_)
        · have hf := ite_f c22 hf
          refine r_aload_n h 1 dX2_part_49 rfl rfl ?_
          obtain ⟨k23, hf⟩ := hf
          obtain ⟨b24, e25, hf⟩ := hf
          refine g1056 h dX2_part_50 k23 e25 ?_
          refine r_iload_n h 2 dX2_part_53 rfl rfl ?_
          refine r_dup2 h dX2_part_54 rfl rfl ?_
          obtain ⟨j26, hf⟩ := hf
          refine r_iaload h dX2_part_55 j26 ?_
          refine r_iconst (v := 1) h dX2_part_56 (by decide) ?_
          refine r_iadd h dX2_part_57 ?_
          obtain ⟨j27, hf⟩ := hf
          refine r_iastore h dX2_part_58 j27 ?_
          refine r_goW (fun M28 eM28 => ?_)
          have hf := hf M28 eM28
          exact r_return h hq dX2_part_59 ⟨rfl, hf⟩
        · have hf := ite_t c22 hf
          refine r_goto (tgt := 60) h dX2_part_46 (by decide) ?_
          refine r_iinc (v := v2 + 1) (lv' := [(2, .int (v2 + 1)), (0, .ref v0), (1, .ref v1)]) h 2 dX2_part_60 rfl rfl (by decide) rfl ?_
          refine r_goto (tgt := 27) h dX2_part_63 (by decide) ?_
          exact V.sub [1, 2, 0] rfl hf)
  refine r_aload_n h 0 dX2_part_0 rfl rfl ?_
  obtain ⟨k1, hf⟩ := hf
  refine c1068 hl h dX2_part_1 k1 hf (Nat.le_of_ble_eq_true rfl) (by decide) (by decide) (fun x3 M2 hf => ?_)
  refine r_if_eq (tgt := 25) h dX2_part_4 (by decide) (fun c4 => ?_) (fun c4 => ?_)
  · have hf := ite_t c4 hf
    refine r_iconst (v := 0) h dX2_part_25 (by decide) ?_
    refine r_istore_n (lv' := [(2, .int 0), (0, .ref a0), (1, .ref a1)]) h dX2_part_26 rfl (by decide) rfl ?_
    exact V.sub [1, 2, 0] rfl hf
  · have hf := ite_f c4 hf
    refine r_aload_n h 1 dX2_part_7 rfl rfl ?_
    refine r_dup h dX2_part_8 rfl ?_
    obtain ⟨k5, hf⟩ := hf
    refine g1058 h dX2_part_9 k5 ?_
    refine r_aload_n h 0 dX2_part_12 rfl rfl ?_
    refine r_iconst (v := 0) h dX2_part_13 (by decide) ?_
    refine r_sipush (v := 999) h dX2_part_14 (by decide) ?_
    obtain ⟨k6, hf⟩ := hf
    refine c915 hl h dX2_part_17 k6 hf (Nat.le_of_ble_eq_true rfl) (by decide) (by decide) (fun x8 M7 hf => ?_) (fun q9 E9 M9 hf => r_out h hq hf)
    refine r_iadd h dX2_part_20 ?_
    obtain ⟨k9, hf⟩ := hf
    refine p1058 h dX2_part_21 k9 ?_
    refine r_goW (fun M10 eM10 => ?_)
    have hf := hf M10 eM10
    exact r_return h hq dX2_part_24 ⟨rfl, hf⟩
theorem c1064 {l : Launch} {G : gG} {X : gX} {cc : ByteArray} {nL F L bc bs pc : Nat} {M : gM} {lv : List (Nat × Value)} {rest : List Value} {a0 : Nat} {a1 : Nat} {K : gM → Prop} {KX : Addr → String → gM → Prop} (hl : l.stackTraces = false) (h : hX l G X cc nL "GlacierMail$Reader" F L) (d : decode cc pc = .ok (.invokevirtual 306, 3)) (hk : kd M a0 = some (.inl 2)) (hf : f_X2_part a0 a1 M K KX) (hst : (rest.map fun v => v.category).sum ≤ 8) (hF : 6 ≤ F) (hL : 132 ≤ L) (kk : ∀ M1, K M1 → V l G X bc bs M1 (pc + 3) lv rest) (kx : ∀ q E M1, KX q E M1 → VX l G X bc bs M1 pc lv q E) : V l G X bc bs M pc lv (.ref a1 :: .ref a0 :: rest) := r_callV (n := 1) (As := [.ref a1]) h (m_X2_part hl hf) 2 rfl hk rfl ⟨by decide, by decide, by decide +kernel⟩ d q1064 q1066 qs28 q136 q1067 rfl rfl hst hF hL (Nat.zero_le _) (Nat.zero_le _) (kV_go kk) kx
def f_X2_sum (a0 : Nat) (M : gM) (K : Nat → gM → Prop) (KX : Addr → String → gM → Prop) : Prop :=
  ∀ P13 : Nat → Nat → gM → Prop,
  (∀ (v0 : Nat) (v1 : Nat) (M : gM), (kd M v0 = some (.inl 2) ∧ f_X2_sign v0 M (fun x7 M6 => if x7 = 43 then kd M6 v0 = some (.inl 2) ∧ ∀ M10, M10 = sI M6 v0 8 ((iv M6 v0 8) + 1) → kd M10 v0 = some (.inl 2) ∧ f_X2_part v0 v1 M10 (fun M12 => P13 v0 v1 M12) KX else K v1 M6)) → P13 v0 v1 M) →
  ∀ M1, M1 = sN M (.inl 13) → f_X13_init (sz M) M1 (fun M2 => kd M2 a0 = some (.inl 2) ∧ f_X2_part a0 (sz M) M2 (fun M4 => P13 a0 (sz M) M4) KX)
set_option maxHeartbeats 4000000 in
theorem m_X2_sum {l : Launch} (hl : l.stackTraces = false) {G : gG} {a0 : Nat} {M : gM} {K : Nat → gM → Prop} {KX : Addr → String → gM → Prop} (hf : f_X2_sum a0 M K KX) : gMet l G yX2_sum (ws_ yX2_sum cX2_sum 2 (some (Jvm.ClassFile.FieldType.object "GlacierMail$Sum"))) ({ frames := 6, cells := 2, slots := 10, locals := 132 }) M [.ref a0] (kA K) KX := by
  refine gm_of hl (ret := (some (Jvm.ClassFile.FieldType.object "GlacierMail$Sum"))) rfl (Nat.le_of_ble_eq_true rfl) (fun X h hq => ?_)
  have h : hX l G X cX2_sum 2 "GlacierMail$Reader" 6 132 := h
  have hf := hf
  show V l G X 2 10 M 0 [(0, .ref a0)] []
  have hf := hf
    (fun v0 v1 M => V l G X 0 0 M 13 [(0, .ref v0), (1, .ref v1)] [])
    (by
      intro v0 v1 M hf
      show V l G X 0 0 M 13 [(0, .ref v0), (1, .ref v1)] []
      refine r_aload_n h 0 dX2_sum_13 rfl rfl ?_
      obtain ⟨k5, hf⟩ := hf
      refine c846 hl h dX2_sum_14 k5 hf (Nat.le_of_ble_eq_true rfl) (by decide) (by decide) (fun x7 M6 hf => ?_)
      refine r_bipush (v := 43) h dX2_sum_17 (by decide) ?_
      refine r_icmp_ne (tgt := 40) h dX2_sum_19 (by decide) (fun c8 => ?_) (fun c8 => ?_)
      · have hf := ite_f c8 hf
        refine r_aload_n h 1 dX2_sum_40 rfl rfl ?_
        exact r_areturn h hq dX2_sum_41 ⟨_, rfl, hf⟩
      · have hf := ite_t c8 hf
        refine r_aload_n h 0 dX2_sum_22 rfl rfl ?_
        refine r_dup h dX2_sum_23 rfl ?_
        obtain ⟨k9, hf⟩ := hf
        refine g517 h dX2_sum_24 k9 ?_
        refine r_iconst (v := 1) h dX2_sum_27 (by decide) ?_
        refine r_iadd h dX2_sum_28 ?_
        refine p517 h dX2_sum_29 k9 ?_
        refine r_goW (fun M10 eM10 => ?_)
        have hf := hf M10 eM10
        refine r_aload_n h 0 dX2_sum_32 rfl rfl ?_
        refine r_aload_n h 1 dX2_sum_33 rfl rfl ?_
        obtain ⟨k11, hf⟩ := hf
        refine c1064 hl h dX2_sum_34 k11 hf (Nat.le_of_ble_eq_true rfl) (by decide) (by decide) (fun M12 hf => ?_) (fun q9 E9 M9 hf => r_out h hq hf)
        refine r_goto (tgt := 13) h dX2_sum_37 (by decide) ?_
        exact V.sub [0, 1] rfl hf)
  refine n1049 h dX2_sum_0 (by decide) (by decide) ?_
  refine r_goW (fun M1 eM1 => ?_)
  have hf := hf M1 eM1
  refine r_dup h dX2_sum_3 rfl ?_
  refine c1051 hl h dX2_sum_4 hf (Nat.le_of_ble_eq_true rfl) (by decide) (by decide) (by decide) (by decide) (fun M2 hf => ?_)
  refine r_astore_n (lv' := [(1, .ref (sz M)), (0, .ref a0)]) h dX2_sum_7 rfl (by decide) rfl ?_
  refine r_aload_n h 1 dX2_sum_8 rfl rfl ?_
  refine r_aload_n h 0 dX2_sum_9 rfl rfl ?_
  obtain ⟨k3, hf⟩ := hf
  refine c1064 hl h dX2_sum_10 k3 hf (Nat.le_of_ble_eq_true rfl) (by decide) (by decide) (fun M4 hf => ?_) (fun q9 E9 M9 hf => r_out h hq hf)
  exact V.sub [1, 0] rfl hf
theorem c1045 {l : Launch} {G : gG} {X : gX} {cc : ByteArray} {nL F L bc bs pc : Nat} {M : gM} {lv : List (Nat × Value)} {rest : List Value} {a0 : Nat} {K : Nat → gM → Prop} {KX : Addr → String → gM → Prop} (hl : l.stackTraces = false) (h : hX l G X cc nL "GlacierMail$Reader" F L) (d : decode cc pc = .ok (.invokevirtual 294, 3)) (hk : kd M a0 = some (.inl 2)) (hf : f_X2_sum a0 M K KX) (hst : (rest.map fun v => v.category).sum ≤ 8) (hF : 7 ≤ F) (hL : 153 ≤ L) (h1 : 2 ≤ bc) (h2 : 10 ≤ bs) (kk : ∀ x M1, K x M1 → V l G X (bc - 2) (bs - 10) M1 (pc + 3) lv (.ref x :: rest)) (kx : ∀ q E M1, KX q E M1 → VX l G X (bc - 2) (bs - 10) M1 pc lv q E) : V l G X bc bs M pc lv (.ref a0 :: rest) := r_callV (n := 0) (As := []) h (m_X2_sum hl hf) 2 rfl hk rfl ⟨by decide, by decide, by decide +kernel⟩ d q1045 q1047 qs27 q136 q1048 rfl rfl hst hF hL h1 h2 (kA_go kk) kx
def f_X2_tag (a0 : Nat) (M : gM) (K : Nat → gM → Prop) (KX : Addr → String → gM → Prop) : Prop :=
  ∀ P2 : Nat → Int32 → gM → Prop,
  ∀ P72 : Nat → Nat → Int32 → gM → Prop,
  (∀ (v0 : Nat) (v1 : Int32) (M : gM), (kd M v0 = some (.inl 2) ∧ ∃ b2, rv M v0 2 = some b2 ∧ ∃ n4, kd M b2 = some (.inr (3, n4)) ∧ if (nI n4) ≤ v1 then f_X2_sum v0 M (fun b8 M7 => kd M7 v0 = some (.inl 2) ∧ f_X2_sign v0 M7 (fun x11 M10 => if x11 = 60 then P72 v0 b8 x11 M10 else if x11 = 62 then P72 v0 b8 x11 M10 else kd M10 v0 = some (.inl 2) ∧ f_X2_fail v0 (iv M10 v0 8) M10 (fun M15 => P72 v0 b8 x11 M15) KX)) KX else ∃ b16, rv M v0 2 = some b16 ∧ inA M b16 3 v1 ∧ ∃ b19, rv M b16 (ix v1) = some b19 ∧ f_X2_takes v0 b19 M (fun x22 M21 => if x22 = 0 then P2 v0 (v1 + 1) M21 else ∀ M24, M24 = sN M21 (.inl 12) → f_X12_init (sz M21) ((8 : Int32) + v1) M24 (fun M25 => K (sz M21) M25))) → P2 v0 v1 M) →
  (∀ (v0 : Nat) (v1 : Nat) (v2 : Int32) (M : gM), (kd M v0 = some (.inl 2) ∧ ∀ M27, M27 = sI M v0 8 ((iv M v0 8) + 1) → kd M27 v0 = some (.inl 2) ∧ f_X2_sum v0 M27 (fun b30 M29 => if v2 = 60 then ∀ M34, M34 = sN M29 (.inl 14) → f_X14_init (sz M29) v1 b30 M34 (fun M35 => K (sz M29) M35) else ∀ M32, M32 = sN M29 (.inl 14) → f_X14_init (sz M29) b30 v1 M32 (fun M33 => K (sz M29) M33)) KX) → P72 v0 v1 v2 M) →
  P2 a0 0 M
set_option maxHeartbeats 4000000 in
theorem m_X2_tag {l : Launch} (hl : l.stackTraces = false) {G : gG} {a0 : Nat} {M : gM} {K : Nat → gM → Prop} {KX : Addr → String → gM → Prop} (hf : f_X2_tag a0 M K KX) : gMet l G yX2_tag (ws_ yX2_tag cX2_tag 4 (some (Jvm.ClassFile.FieldType.object "GlacierMail$Cond"))) ({ frames := 7, cells := 5, slots := 22, locals := 153 }) M [.ref a0] (kA K) KX := by
  refine gm_of hl (ret := (some (Jvm.ClassFile.FieldType.object "GlacierMail$Cond"))) rfl (Nat.le_of_ble_eq_true rfl) (fun X h hq => ?_)
  have h : hX l G X cX2_tag 4 "GlacierMail$Reader" 7 153 := h
  have hf := hf
  show V l G X 5 22 M 0 [(0, .ref a0)] []
  have hf := hf
    (fun v0 v1 M => V l G X 5 22 M 2 [(0, .ref v0), (1, .int v1)] [])
    (fun v0 v1 v2 M => V l G X 3 12 M 72 [(0, .ref v0), (1, .ref v1), (2, .int v2)] [])
    (by
      intro v0 v1 M hf
      show V l G X 5 22 M 2 [(0, .ref v0), (1, .int v1)] []
      refine r_iload_n h 1 dX2_tag_2 rfl rfl ?_
      refine r_aload_n h 0 dX2_tag_3 rfl rfl ?_
      obtain ⟨k1, hf⟩ := hf
      obtain ⟨b2, e3, hf⟩ := hf
      refine g510 h dX2_tag_4 k1 e3 ?_
      obtain ⟨n4, k5, hf⟩ := hf
      refine r_alen h 3 n4 (by decide) dX2_tag_7 k5 ?_
      refine r_icmp_ge (tgt := 42) h dX2_tag_8 (by decide) (fun c6 => ?_) (fun c6 => ?_)
      · have hf := ite_t c6 hf
        refine r_aload_n h 0 dX2_tag_42 rfl rfl ?_
        refine c1045 hl h dX2_tag_43 k1 hf (Nat.le_of_ble_eq_true rfl) (by decide) (by decide) (by decide) (by decide) (fun b8 M7 hf => ?_) (fun q9 E9 M9 hf => r_out h hq hf)
        refine r_astore_n (lv' := [(1, .ref b8), (0, .ref v0)]) h dX2_tag_46 rfl (by decide) rfl ?_
        refine r_aload_n h 1 dX2_tag_47 rfl rfl ?_
        obtain ⟨k9, hf⟩ := hf
        refine c846 hl h dX2_tag_48 k9 hf (Nat.le_of_ble_eq_true rfl) (by decide) (by decide) (fun x11 M10 hf => ?_)
        refine r_istore_n (lv' := [(2, .int x11), (1, .ref b8), (0, .ref v0)]) h dX2_tag_51 rfl (by decide) rfl ?_
        refine r_iload_n h 0 dX2_tag_52 rfl rfl ?_
        refine r_bipush (v := 60) h dX2_tag_53 (by decide) ?_
        refine r_icmp_eq (tgt := 72) h dX2_tag_55 (by decide) (fun c12 => ?_) (fun c12 => ?_)
        · have hf := ite_t c12 hf
          exact V.sub [2, 1, 0] rfl hf
        · have hf := ite_f c12 hf
          refine r_iload_n h 0 dX2_tag_58 rfl rfl ?_
          refine r_bipush (v := 62) h dX2_tag_59 (by decide) ?_
          refine r_icmp_eq (tgt := 72) h dX2_tag_61 (by decide) (fun c13 => ?_) (fun c13 => ?_)
          · have hf := ite_t c13 hf
            exact V.sub [2, 1, 0] rfl hf
          · have hf := ite_f c13 hf
            refine r_aload_n h 2 dX2_tag_64 rfl rfl ?_
            refine r_aload_n h 2 dX2_tag_65 rfl rfl ?_
            obtain ⟨k14, hf⟩ := hf
            refine g517 h dX2_tag_66 k14 ?_
            refine c850 hl h dX2_tag_69 k14 hf (Nat.le_of_ble_eq_true rfl) (by decide) (by decide) (fun M15 hf => ?_) (fun q9 E9 M9 hf => r_out h hq hf)
            exact V.sub [2, 1, 0] rfl hf
      · have hf := ite_f c6 hf
        refine r_aload_n h 0 dX2_tag_11 rfl rfl ?_
        refine r_aload_n h 0 dX2_tag_12 rfl rfl ?_
        obtain ⟨b16, e17, hf⟩ := hf
        refine g510 h dX2_tag_13 k1 e17 ?_
        refine r_iload_n h 1 dX2_tag_16 rfl rfl ?_
        obtain ⟨j18, b19, e20, hf⟩ := hf
        refine r_aaload h 3 (by decide) (by decide) dX2_tag_17 j18 (v := .ref b19) (by rw [e20]; rfl) ?_
        refine c859 hl h dX2_tag_18 k1 hf (Nat.le_of_ble_eq_true rfl) (by decide) (by decide) (fun x22 M21 hf => ?_)
        refine r_if_eq (tgt := 36) h dX2_tag_21 (by decide) (fun c23 => ?_) (fun c23 => ?_)
        · have hf := ite_t c23 hf
          refine r_iinc (v := v1 + 1) (lv' := [(1, .int (v1 + 1)), (0, .ref v0)]) h 1 dX2_tag_36 rfl rfl (by decide) rfl ?_
          refine r_goto (tgt := 2) h dX2_tag_39 (by decide) ?_
          exact V.sub [1, 0] rfl hf
        · have hf := ite_f c23 hf
          refine n1035 h dX2_tag_24 (by decide) (by decide) ?_
          refine r_goW (fun M24 eM24 => ?_)
          have hf := hf M24 eM24
          refine r_dup h dX2_tag_27 rfl ?_
          refine r_bipush (v := 8) h dX2_tag_28 (by decide) ?_
          refine r_iload_n h 1 dX2_tag_30 rfl rfl ?_
          refine r_iadd h dX2_tag_31 ?_
          refine c1037 hl h dX2_tag_32 hf (Nat.le_of_ble_eq_true rfl) (by decide) (by decide) (fun M25 hf => ?_)
          exact r_areturn h hq dX2_tag_35 ⟨_, rfl, hf⟩)
    (by
      intro v0 v1 v2 M hf
      show V l G X 3 12 M 72 [(0, .ref v0), (1, .ref v1), (2, .int v2)] []
      refine r_aload_n h 0 dX2_tag_72 rfl rfl ?_
      refine r_dup h dX2_tag_73 rfl ?_
      obtain ⟨k26, hf⟩ := hf
      refine g517 h dX2_tag_74 k26 ?_
      refine r_iconst (v := 1) h dX2_tag_77 (by decide) ?_
      refine r_iadd h dX2_tag_78 ?_
      refine p517 h dX2_tag_79 k26 ?_
      refine r_goW (fun M27 eM27 => ?_)
      have hf := hf M27 eM27
      refine r_aload_n h 0 dX2_tag_82 rfl rfl ?_
      obtain ⟨k28, hf⟩ := hf
      refine c1045 hl h dX2_tag_83 k28 hf (Nat.le_of_ble_eq_true rfl) (by decide) (by decide) (by decide) (by decide) (fun b30 M29 hf => ?_) (fun q9 E9 M9 hf => r_out h hq hf)
      refine r_astore_n (lv' := [(3, .ref b30), (0, .ref v0), (1, .ref v1), (2, .int v2)]) h dX2_tag_86 rfl (by decide) rfl ?_
      refine r_iload_n h 3 dX2_tag_87 rfl rfl ?_
      refine r_bipush (v := 60) h dX2_tag_88 (by decide) ?_
      refine r_icmp_ne (tgt := 105) h dX2_tag_90 (by decide) (fun c31 => ?_) (fun c31 => ?_)
      · have hf := ite_f c31 hf
        refine n1072 h dX2_tag_105 (by decide) (by decide) ?_
        refine r_goW (fun M32 eM32 => ?_)
        have hf := hf M32 eM32
        refine r_dup h dX2_tag_108 rfl ?_
        refine r_aload_n h 0 dX2_tag_109 rfl rfl ?_
        refine r_aload_n h 2 dX2_tag_110 rfl rfl ?_
        refine c1074 hl h dX2_tag_111 hf (Nat.le_of_ble_eq_true rfl) (by decide) (by decide) (fun M33 hf => ?_)
        exact r_areturn h hq dX2_tag_114 ⟨_, rfl, hf⟩
      · have hf := ite_t c31 hf
        refine n1072 h dX2_tag_93 (by decide) (by decide) ?_
        refine r_goW (fun M34 eM34 => ?_)
        have hf := hf M34 eM34
        refine r_dup h dX2_tag_96 rfl ?_
        refine r_aload_n h 2 dX2_tag_97 rfl rfl ?_
        refine r_aload_n h 0 dX2_tag_98 rfl rfl ?_
        refine c1074 hl h dX2_tag_99 hf (Nat.le_of_ble_eq_true rfl) (by decide) (by decide) (fun M35 hf => ?_)
        refine r_goto (tgt := 114) h dX2_tag_102 (by decide) ?_
        exact r_areturn h hq dX2_tag_114 ⟨_, rfl, hf⟩)
  refine r_iconst (v := 0) h dX2_tag_0 (by decide) ?_
  refine r_istore_n (lv' := [(1, .int 0), (0, .ref a0)]) h dX2_tag_1 rfl (by decide) rfl ?_
  exact V.sub [1, 0] rfl hf
theorem c1031 {l : Launch} {G : gG} {X : gX} {cc : ByteArray} {nL F L bc bs pc : Nat} {M : gM} {lv : List (Nat × Value)} {rest : List Value} {a0 : Nat} {K : Nat → gM → Prop} {KX : Addr → String → gM → Prop} (hl : l.stackTraces = false) (h : hX l G X cc nL "GlacierMail$Reader" F L) (d : decode cc pc = .ok (.invokevirtual 284, 3)) (hk : kd M a0 = some (.inl 2)) (hf : f_X2_tag a0 M K KX) (hst : (rest.map fun v => v.category).sum ≤ 8) (hF : 8 ≤ F) (hL : 176 ≤ L) (h1 : 5 ≤ bc) (h2 : 22 ≤ bs) (kk : ∀ x M1, K x M1 → V l G X (bc - 5) (bs - 22) M1 (pc + 3) lv (.ref x :: rest)) (kx : ∀ q E M1, KX q E M1 → VX l G X (bc - 5) (bs - 22) M1 pc lv q E) : V l G X bc bs M pc lv (.ref a0 :: rest) := r_callV (n := 0) (As := []) h (m_X2_tag hl hf) 2 rfl hk rfl ⟨by decide, by decide, by decide +kernel⟩ d q1031 q1033 qs26 q136 q1034 rfl rfl hst hF hL h1 h2 (kA_go kk) kx
theorem cm1026 {l : Launch} {G : gG} {X : gX} {cc : ByteArray} {nL F L bc bs pc : Nat} {M : gM} {lv : List (Nat × Value)} {rest : List Value} {a0 : Nat} {c z : Nat} {fr lo : Nat} {K : Nat → gM → Prop} {KX : Addr → String → gM → Prop} (h : hX l G X cc nL "GlacierMail$Reader" F L) (d : decode cc pc = .ok (.invokevirtual 267, 3)) (hk : kd M a0 = some (.inl 2)) (hM : gMet l G yX2_atom (ws_ yX2_atom cX2_atom 5 (some (Jvm.ClassFile.FieldType.object "GlacierMail$Cond"))) ({ frames := fr, cells := c, slots := z, locals := lo }) M [.ref a0] (kA K) KX) (hst : (rest.map fun v => v.category).sum ≤ 8) (hF : fr + 1 ≤ F) (hL : 24 + lo ≤ L) (h1 : c ≤ bc) (h2 : z ≤ bs) (kk : ∀ x M1, K x M1 → V l G X (bc - c) (bs - z) M1 (pc + 3) lv (.ref x :: rest)) (kx : ∀ q E M1, KX q E M1 → VX l G X (bc - c) (bs - z) M1 pc lv q E) : V l G X bc bs M pc lv (.ref a0 :: rest) := r_callV (n := 0) (As := []) h hM 2 rfl hk rfl ⟨by decide, by decide, by decide +kernel⟩ d q1026 q1028 qs25 q136 q1029 rfl rfl hst hF hL h1 h2 (kA_go kk) kx
theorem cm1020 {l : Launch} {G : gG} {X : gX} {cc : ByteArray} {nL F L bc bs pc : Nat} {M : gM} {lv : List (Nat × Value)} {rest : List Value} {a0 : Nat} {a1 : Int32} {c z : Nat} {fr lo : Nat} {K : Nat → gM → Prop} {KX : Addr → String → gM → Prop} (h : hX l G X cc nL "GlacierMail$Reader" F L) (d : decode cc pc = .ok (.invokevirtual 252, 3)) (hk : kd M a0 = some (.inl 2)) (hM : gMet l G yX2_row (ws_ yX2_row cX2_row 4 (some (Jvm.ClassFile.FieldType.object "GlacierMail$Cond"))) ({ frames := fr, cells := c, slots := z, locals := lo }) M [.ref a0, .int a1] (kA K) KX) (hst : (rest.map fun v => v.category).sum ≤ 8) (hF : fr + 1 ≤ F) (hL : 23 + lo ≤ L) (h1 : c ≤ bc) (h2 : z ≤ bs) (kk : ∀ x M1, K x M1 → V l G X (bc - c) (bs - z) M1 (pc + 3) lv (.ref x :: rest)) (kx : ∀ q E M1, KX q E M1 → VX l G X (bc - c) (bs - z) M1 pc lv q E) : V l G X bc bs M pc lv (.int a1 :: .ref a0 :: rest) := r_callV (n := 1) (As := [.int a1]) h hM 2 rfl hk rfl ⟨by decide, by decide, by decide +kernel⟩ d q1020 q1022 qs24 q136 q1023 rfl rfl hst hF hL h1 h2 (kA_go kk) kx
def f_X2_atom (fA : Nat → Nat → Nat → gM → (Nat → gM → Prop) → (Addr → String → gM → Prop) → Prop) (fR : Nat → Int32 → Nat → Nat → gM → (Nat → gM → Prop) → (Addr → String → gM → Prop) → Prop) (a0 : Nat) (bc bs : Nat) (M : gM) (K : Nat → gM → Prop) (KX : Addr → String → gM → Prop) : Prop :=
  ∀ P33 : Nat → Int32 → Int32 → Nat → Nat → gM → Prop,
  ∀ P47 : Nat → Int32 → Nat → Nat → gM → Prop,
  (∀ (v0 : Nat) (v2 : Int32) (v3 : Int32) (bc bs : Nat) (M : gM), (kd M v0 = some (.inl 2) ∧ if (iv M v0 9) = 6 then f_X2_fail v0 v2 M (fun M17 => P47 v0 v3 bc bs M17) KX else P47 v0 v3 bc bs M) → P33 v0 v2 v3 bc bs M) →
  (∀ (v0 : Nat) (v3 : Int32) (bc bs : Nat) (M : gM), (kd M v0 = some (.inl 2) ∧ ∀ M19, M19 = sI M v0 9 ((iv M v0 9) + 1) → if v3 = 0 then kd M19 v0 = some (.inl 2) ∧ ∀ M22, M22 = sI M19 v0 8 ((iv M19 v0 8) + 1) → kd M22 v0 = some (.inl 2) ∧ ∃ c24 z25, c24 ≤ bc ∧ z25 ≤ bs ∧ fR v0 0 c24 z25 M22 (fun b29 M28 => kd M28 v0 = some (.inl 2) ∧ f_X2_sign v0 M28 (fun x32 M31 => if x32 = 41 then kd M31 v0 = some (.inl 2) ∧ ∀ M35, M35 = sI M31 v0 8 ((iv M31 v0 8) + 1) → kd M35 v0 = some (.inl 2) ∧ ∀ M37, M37 = sI M35 v0 9 ((iv M35 v0 9) - 1) → K b29 M37 else kd M31 v0 = some (.inl 2) ∧ f_X2_fail v0 (iv M31 v0 8) M31 (fun M39 => kd M39 v0 = some (.inl 2) ∧ ∀ M41, M41 = sI M39 v0 8 ((iv M39 v0 8) + 1) → kd M41 v0 = some (.inl 2) ∧ ∀ M43, M43 = sI M41 v0 9 ((iv M41 v0 9) - 1) → K b29 M43) KX)) KX else 1 ≤ bc ∧ 1 ≤ bs ∧ ∀ M46, M46 = sN M19 (.inl 15) → kd M46 v0 = some (.inl 2) ∧ ∃ c48 z49, c48 ≤ bc - 1 ∧ z49 ≤ bs - 1 ∧ fA v0 c48 z49 M46 (fun b53 M52 => f_X15_init (sz M19) b53 M52 (fun M54 => kd M54 v0 = some (.inl 2) ∧ ∀ M56, M56 = sI M54 v0 9 ((iv M54 v0 9) - 1) → K (sz M19) M56)) KX) → P47 v0 v3 bc bs M) →
  kd M a0 = some (.inl 2) ∧ f_X2_sign a0 M (fun x3 M2 => kd M2 a0 = some (.inl 2) ∧ ∀ w5, kd M2 w5 = some (.inr (10, 25)) → f_X2_takes a0 w5 M2 (fun x7 M6 => if x7 = 0 then if x3 = 40 then P33 a0 (iv M2 a0 8) x7 bc bs M6 else kd M6 a0 = some (.inl 2) ∧ 5 ≤ bc ∧ 22 ≤ bs ∧ f_X2_tag a0 M6 (fun b14 M13 => K b14 M13) KX else P33 a0 (iv M2 a0 8) x7 bc bs M6))
set_option maxHeartbeats 4000000 in
theorem m_X2_atom {l : Launch} (hl : l.stackTraces = false) {G : gG}  {fA : Nat → Nat → Nat → gM → (Nat → gM → Prop) → (Addr → String → gM → Prop) → Prop} {fR : Nat → Int32 → Nat → Nat → gM → (Nat → gM → Prop) → (Addr → String → gM → Prop) → Prop}{a0 : Nat} {bc bs : Nat} {M : gM} {K : Nat → gM → Prop} {KX : Addr → String → gM → Prop} {FR LO fr1 lo1 : Nat} (IH_X2_atom : ∀ {a0 : Nat} {bc bs : Nat} {M : gM} {K : Nat → gM → Prop} {KX : Addr → String → gM → Prop}, fA a0 bc bs M K KX → gMet l G yX2_atom (ws_ yX2_atom cX2_atom 5 (some (Jvm.ClassFile.FieldType.object "GlacierMail$Cond"))) ({ frames := fr1, cells := bc, slots := bs, locals := lo1 }) M [.ref a0] (kA K) KX) (IH_X2_row : ∀ {a0 : Nat} {a1 : Int32} {bc bs : Nat} {M : gM} {K : Nat → gM → Prop} {KX : Addr → String → gM → Prop}, fR a0 a1 bc bs M K KX → gMet l G yX2_row (ws_ yX2_row cX2_row 4 (some (Jvm.ClassFile.FieldType.object "GlacierMail$Cond"))) ({ frames := fr1, cells := bc, slots := bs, locals := lo1 }) M [.ref a0, .int a1] (kA K) KX) (hF0 : 8 ≤ FR) (hL0 : 176 ≤ LO) (hF1 : fr1 + 1 ≤ FR) (hL1 : 24 + lo1 ≤ LO) (hf : f_X2_atom fA fR a0 bc bs M K KX) : gMet l G yX2_atom (ws_ yX2_atom cX2_atom 5 (some (Jvm.ClassFile.FieldType.object "GlacierMail$Cond"))) ({ frames := FR, cells := bc, slots := bs, locals := LO }) M [.ref a0] (kA K) KX := by
  refine gm_of hl (ret := (some (Jvm.ClassFile.FieldType.object "GlacierMail$Cond"))) rfl (Nat.le_of_ble_eq_true rfl) (fun X h hq => ?_)
  have h : hX l G X cX2_atom 5 "GlacierMail$Reader" FR LO := h
  have hf := hf
  show V l G X bc bs M 0 [(0, .ref a0)] []
  have hf := hf
    (fun v0 v2 v3 bc bs M => V l G X bc bs M 33 [(0, .ref v0), (2, .int v2), (3, .int v3)] [])
    (fun v0 v3 bc bs M => V l G X bc bs M 47 [(0, .ref v0), (3, .int v3)] [])
    (by
      intro v0 v2 v3 bc bs M hf
      show V l G X bc bs M 33 [(0, .ref v0), (2, .int v2), (3, .int v3)] []
      refine r_aload_n h 0 dX2_atom_33 rfl rfl ?_
      obtain ⟨k15, hf⟩ := hf
      refine g518 h dX2_atom_34 k15 ?_
      refine r_bipush (v := 6) h dX2_atom_37 (by decide) ?_
      refine r_icmp_ne (tgt := 47) h dX2_atom_39 (by decide) (fun c16 => ?_) (fun c16 => ?_)
      · have hf := ite_f c16 hf
        exact V.sub [0, 2] rfl hf
      · have hf := ite_t c16 hf
        refine r_aload_n h 0 dX2_atom_42 rfl rfl ?_
        refine r_iload_n h 1 dX2_atom_43 rfl rfl ?_
        refine c850 hl h dX2_atom_44 k15 hf (Nat.le_of_ble_eq_true rfl) (by omega) (by omega) (fun M17 hf => ?_) (fun q9 E9 M9 hf => r_out h hq hf)
        exact V.sub [0, 2] rfl hf)
    (by
      intro v0 v3 bc bs M hf
      show V l G X bc bs M 47 [(0, .ref v0), (3, .int v3)] []
      refine r_aload_n h 0 dX2_atom_47 rfl rfl ?_
      refine r_dup h dX2_atom_48 rfl ?_
      obtain ⟨k18, hf⟩ := hf
      refine g518 h dX2_atom_49 k18 ?_
      refine r_iconst (v := 1) h dX2_atom_52 (by decide) ?_
      refine r_iadd h dX2_atom_53 ?_
      refine p518 h dX2_atom_54 k18 ?_
      refine r_goW (fun M19 eM19 => ?_)
      have hf := hf M19 eM19
      refine r_iload_n h 1 dX2_atom_57 rfl rfl ?_
      refine r_if_eq (tgt := 77) h dX2_atom_58 (by decide) (fun c20 => ?_) (fun c20 => ?_)
      · have hf := ite_t c20 hf
        refine r_aload_n h 0 dX2_atom_77 rfl rfl ?_
        refine r_dup h dX2_atom_78 rfl ?_
        obtain ⟨k21, hf⟩ := hf
        refine g517 h dX2_atom_79 k21 ?_
        refine r_iconst (v := 1) h dX2_atom_82 (by decide) ?_
        refine r_iadd h dX2_atom_83 ?_
        refine p517 h dX2_atom_84 k21 ?_
        refine r_goW (fun M22 eM22 => ?_)
        have hf := hf M22 eM22
        refine r_aload_n h 0 dX2_atom_87 rfl rfl ?_
        refine r_iconst (v := 0) h dX2_atom_88 (by decide) ?_
        obtain ⟨k23, hf⟩ := hf
        obtain ⟨c24, z25, h26, h27, hf⟩ := hf
        refine cm1020 h dX2_atom_89 k23 (IH_X2_row hf) (Nat.le_of_ble_eq_true rfl) (by omega) (by omega) h26 h27 (fun b29 M28 hf => ?_) (fun q9 E9 M9 hf => r_out h hq hf)
        refine r_astore (lv' := [(4, .ref b29), (0, .ref v0), (3, .int v3)]) h dX2_atom_92 (by decide) rfl ?_
        refine r_aload_n h 1 dX2_atom_94 rfl rfl ?_
        obtain ⟨k30, hf⟩ := hf
        refine c846 hl h dX2_atom_95 k30 hf (Nat.le_of_ble_eq_true rfl) (by omega) (by omega) (fun x32 M31 hf => ?_)
        refine r_bipush (v := 41) h dX2_atom_98 (by decide) ?_
        refine r_icmp_eq (tgt := 111) h dX2_atom_100 (by decide) (fun c33 => ?_) (fun c33 => ?_)
        · have hf := ite_t c33 hf
          refine r_aload_n h 1 dX2_atom_111 rfl rfl ?_
          refine r_dup h dX2_atom_112 rfl ?_
          obtain ⟨k34, hf⟩ := hf
          refine g517 h dX2_atom_113 k34 ?_
          refine r_iconst (v := 1) h dX2_atom_116 (by decide) ?_
          refine r_iadd h dX2_atom_117 ?_
          refine p517 h dX2_atom_118 k34 ?_
          refine r_goW (fun M35 eM35 => ?_)
          have hf := hf M35 eM35
          refine r_aload_n h 1 dX2_atom_121 rfl rfl ?_
          refine r_dup h dX2_atom_122 rfl ?_
          obtain ⟨k36, hf⟩ := hf
          refine g518 h dX2_atom_123 k36 ?_
          refine r_iconst (v := 1) h dX2_atom_126 (by decide) ?_
          refine r_isub h dX2_atom_127 ?_
          refine p518 h dX2_atom_128 k36 ?_
          refine r_goW (fun M37 eM37 => ?_)
          have hf := hf M37 eM37
          refine r_aload h 0 dX2_atom_131 rfl ?_
          exact r_areturn h hq dX2_atom_133 ⟨_, rfl, hf⟩
        · have hf := ite_f c33 hf
          refine r_aload_n h 1 dX2_atom_103 rfl rfl ?_
          refine r_aload_n h 1 dX2_atom_104 rfl rfl ?_
          obtain ⟨k38, hf⟩ := hf
          refine g517 h dX2_atom_105 k38 ?_
          refine c850 hl h dX2_atom_108 k38 hf (Nat.le_of_ble_eq_true rfl) (by omega) (by omega) (fun M39 hf => ?_) (fun q9 E9 M9 hf => r_out h hq hf)
          refine r_aload_n h 1 dX2_atom_111 rfl rfl ?_
          refine r_dup h dX2_atom_112 rfl ?_
          obtain ⟨k40, hf⟩ := hf
          refine g517 h dX2_atom_113 k40 ?_
          refine r_iconst (v := 1) h dX2_atom_116 (by decide) ?_
          refine r_iadd h dX2_atom_117 ?_
          refine p517 h dX2_atom_118 k40 ?_
          refine r_goW (fun M41 eM41 => ?_)
          have hf := hf M41 eM41
          refine r_aload_n h 1 dX2_atom_121 rfl rfl ?_
          refine r_dup h dX2_atom_122 rfl ?_
          obtain ⟨k42, hf⟩ := hf
          refine g518 h dX2_atom_123 k42 ?_
          refine r_iconst (v := 1) h dX2_atom_126 (by decide) ?_
          refine r_isub h dX2_atom_127 ?_
          refine p518 h dX2_atom_128 k42 ?_
          refine r_goW (fun M43 eM43 => ?_)
          have hf := hf M43 eM43
          refine r_aload h 0 dX2_atom_131 rfl ?_
          exact r_areturn h hq dX2_atom_133 ⟨_, rfl, hf⟩
      · have hf := ite_f c20 hf
        obtain ⟨h44, h45, hf⟩ := hf
        refine n1085 h dX2_atom_61 h44 h45 ?_
        refine r_goW (fun M46 eM46 => ?_)
        have hf := hf M46 eM46
        refine r_dup h dX2_atom_64 rfl ?_
        refine r_aload_n h 0 dX2_atom_65 rfl rfl ?_
        obtain ⟨k47, hf⟩ := hf
        obtain ⟨c48, z49, h50, h51, hf⟩ := hf
        refine cm1026 h dX2_atom_66 k47 (IH_X2_atom hf) (Nat.le_of_ble_eq_true rfl) (by omega) (by omega) h50 h51 (fun b53 M52 hf => ?_) (fun q9 E9 M9 hf => r_out h hq hf)
        refine c1087 hl h dX2_atom_69 hf (Nat.le_of_ble_eq_true rfl) (by omega) (by omega) (fun M54 hf => ?_)
        refine r_astore (lv' := [(4, .ref (sz M19)), (0, .ref v0), (3, .int v3)]) h dX2_atom_72 (by decide) rfl ?_
        refine r_goto (tgt := 121) h dX2_atom_74 (by decide) ?_
        refine r_aload_n h 1 dX2_atom_121 rfl rfl ?_
        refine r_dup h dX2_atom_122 rfl ?_
        obtain ⟨k55, hf⟩ := hf
        refine g518 h dX2_atom_123 k55 ?_
        refine r_iconst (v := 1) h dX2_atom_126 (by decide) ?_
        refine r_isub h dX2_atom_127 ?_
        refine p518 h dX2_atom_128 k55 ?_
        refine r_goW (fun M56 eM56 => ?_)
        have hf := hf M56 eM56
        refine r_aload h 0 dX2_atom_131 rfl ?_
        exact r_areturn h hq dX2_atom_133 ⟨_, rfl, hf⟩)
  refine r_aload_n h 0 dX2_atom_0 rfl rfl ?_
  obtain ⟨k1, hf⟩ := hf
  refine c846 hl h dX2_atom_1 k1 hf (Nat.le_of_ble_eq_true rfl) (by omega) (by omega) (fun x3 M2 hf => ?_)
  refine r_istore_n (lv' := [(1, .int x3), (0, .ref a0)]) h dX2_atom_4 rfl (by decide) rfl ?_
  refine r_aload_n h 1 dX2_atom_5 rfl rfl ?_
  obtain ⟨k4, hf⟩ := hf
  refine g517 h dX2_atom_6 k4 ?_
  refine r_istore_n (lv' := [(2, .int (iv M2 a0 8)), (1, .int x3), (0, .ref a0)]) h dX2_atom_9 rfl (by decide) rfl ?_
  refine r_aload_n h 2 dX2_atom_10 rfl rfl ?_
  refine r_ldcwS h (i := 25) (by decide) (List.mem_of_getElem? (i := 25) rfl) dX2_atom_11 (fun w5 kw5 => ?_)
  have hf := hf w5 kw5
  refine c859 hl h dX2_atom_14 k4 hf (Nat.le_of_ble_eq_true rfl) (by omega) (by omega) (fun x7 M6 hf => ?_)
  refine r_istore_n (lv' := [(3, .int x7), (2, .int (iv M2 a0 8)), (1, .int x3), (0, .ref a0)]) h dX2_atom_17 rfl (by decide) rfl ?_
  refine r_iload_n h 0 dX2_atom_18 rfl rfl ?_
  refine r_if_ne (tgt := 33) h dX2_atom_19 (by decide) (fun c8 => ?_) (fun c8 => ?_)
  · have hf := ite_f c8 hf
    exact V.sub [3, 1, 0] rfl hf
  · have hf := ite_t c8 hf
    refine r_iload_n h 2 dX2_atom_22 rfl rfl ?_
    refine r_bipush (v := 40) h dX2_atom_23 (by decide) ?_
    refine r_icmp_eq (tgt := 33) h dX2_atom_25 (by decide) (fun c9 => ?_) (fun c9 => ?_)
    · have hf := ite_t c9 hf
      exact V.sub [3, 1, 0] rfl hf
    · have hf := ite_f c9 hf
      refine r_aload_n h 3 dX2_atom_28 rfl rfl ?_
      obtain ⟨k10, hf⟩ := hf
      obtain ⟨h11, h12, hf⟩ := hf
      refine c1031 hl h dX2_atom_29 k10 hf (Nat.le_of_ble_eq_true rfl) (by omega) (by omega) h11 h12 (fun b14 M13 hf => ?_) (fun q9 E9 M9 hf => r_out h hq hf)
      exact r_areturn h hq dX2_atom_32 ⟨_, rfl, hf⟩
def f_X2_row (fA : Nat → Nat → Nat → gM → (Nat → gM → Prop) → (Addr → String → gM → Prop) → Prop) (fR : Nat → Int32 → Nat → Nat → gM → (Nat → gM → Prop) → (Addr → String → gM → Prop) → Prop) (a0 : Nat) (a1 : Int32) (bc bs : Nat) (M : gM) (K : Nat → gM → Prop) (KX : Addr → String → gM → Prop) : Prop :=
  ∀ P27 : Nat → Int32 → Nat → Nat → Nat → Nat → gM → Prop,
  ∀ P41 : Nat → Int32 → Nat → Nat → Nat → Nat → Nat → Nat → gM → Prop,
  (∀ (v0 : Nat) (v1 : Int32) (v2 : Nat) (v3 : Nat) (bc bs : Nat) (M : gM), (if v1 = 0 then ∀ w22, kd M w22 = some (.inr (10, 27)) → P41 v0 v1 v2 v3 w22 v0 bc bs M else ∀ w23, kd M w23 = some (.inr (10, 26)) → P41 v0 v1 v2 v3 w23 v0 bc bs M) → P27 v0 v1 v2 v3 bc bs M) →
  (∀ (v0 : Nat) (v1 : Int32) (v2 : Nat) (v3 : Nat) (s0 : Nat) (s1 : Nat) (bc bs : Nat) (M : gM), (kd M s1 = some (.inl 2) ∧ f_X2_takes s1 s0 M (fun x26 M25 => if x26 = 0 then K v2 M25 else 1 ≤ bc ∧ 3 ≤ bs ∧ ∀ M30, M30 = sN M25 (.inl 11) → if v1 = 0 then kd M30 v0 = some (.inl 2) ∧ ∃ c33 z34, c33 ≤ bc - 1 ∧ z34 ≤ bs - 3 ∧ fR v0 1 c33 z34 M30 (fun b38 M37 => f_X11_init (sz M25) b38 v1 M37 (fun M39 => kd M39 v3 = some (.inl 11) ∧ ∀ M41, M41 = sR M39 v3 2 (some (sz M25)) → kd M41 v3 = some (.inl 11) ∧ ∃ b43, rv M41 v3 2 = some b43 ∧ P27 v0 v1 v2 b43 ((bc - 1) - c33) ((bs - 3) - z34) M41)) KX else kd M30 v0 = some (.inl 2) ∧ ∃ c46 z47, c46 ≤ bc - 1 ∧ z47 ≤ bs - 3 ∧ fA v0 c46 z47 M30 (fun b51 M50 => f_X11_init (sz M25) b51 v1 M50 (fun M52 => kd M52 v3 = some (.inl 11) ∧ ∀ M54, M54 = sR M52 v3 2 (some (sz M25)) → kd M54 v3 = some (.inl 11) ∧ ∃ b56, rv M54 v3 2 = some b56 ∧ P27 v0 v1 v2 b56 ((bc - 1) - c46) ((bs - 3) - z47) M54)) KX)) → P41 v0 v1 v2 v3 s0 s1 bc bs M) →
  1 ≤ bc ∧ 3 ≤ bs ∧ ∀ M3, M3 = sN M (.inl 11) → if a1 = 0 then kd M3 a0 = some (.inl 2) ∧ ∃ c6 z7, c6 ≤ bc - 1 ∧ z7 ≤ bs - 3 ∧ fR a0 1 c6 z7 M3 (fun b11 M10 => f_X11_init (sz M) b11 a1 M10 (fun M12 => P27 a0 a1 (sz M) (sz M) ((bc - 1) - c6) ((bs - 3) - z7) M12)) KX else kd M3 a0 = some (.inl 2) ∧ ∃ c14 z15, c14 ≤ bc - 1 ∧ z15 ≤ bs - 3 ∧ fA a0 c14 z15 M3 (fun b19 M18 => f_X11_init (sz M) b19 a1 M18 (fun M20 => P27 a0 a1 (sz M) (sz M) ((bc - 1) - c14) ((bs - 3) - z15) M20)) KX
set_option maxHeartbeats 4000000 in
theorem m_X2_row {l : Launch} (hl : l.stackTraces = false) {G : gG}  {fA : Nat → Nat → Nat → gM → (Nat → gM → Prop) → (Addr → String → gM → Prop) → Prop} {fR : Nat → Int32 → Nat → Nat → gM → (Nat → gM → Prop) → (Addr → String → gM → Prop) → Prop}{a0 : Nat} {a1 : Int32} {bc bs : Nat} {M : gM} {K : Nat → gM → Prop} {KX : Addr → String → gM → Prop} {FR LO fr1 lo1 : Nat} (IH_X2_atom : ∀ {a0 : Nat} {bc bs : Nat} {M : gM} {K : Nat → gM → Prop} {KX : Addr → String → gM → Prop}, fA a0 bc bs M K KX → gMet l G yX2_atom (ws_ yX2_atom cX2_atom 5 (some (Jvm.ClassFile.FieldType.object "GlacierMail$Cond"))) ({ frames := fr1, cells := bc, slots := bs, locals := lo1 }) M [.ref a0] (kA K) KX) (IH_X2_row : ∀ {a0 : Nat} {a1 : Int32} {bc bs : Nat} {M : gM} {K : Nat → gM → Prop} {KX : Addr → String → gM → Prop}, fR a0 a1 bc bs M K KX → gMet l G yX2_row (ws_ yX2_row cX2_row 4 (some (Jvm.ClassFile.FieldType.object "GlacierMail$Cond"))) ({ frames := fr1, cells := bc, slots := bs, locals := lo1 }) M [.ref a0, .int a1] (kA K) KX) (hF0 : 5 ≤ FR) (hL0 : 110 ≤ LO) (hF1 : fr1 + 1 ≤ FR) (hL1 : 24 + lo1 ≤ LO) (hf : f_X2_row fA fR a0 a1 bc bs M K KX) : gMet l G yX2_row (ws_ yX2_row cX2_row 4 (some (Jvm.ClassFile.FieldType.object "GlacierMail$Cond"))) ({ frames := FR, cells := bc, slots := bs, locals := LO }) M [.ref a0, .int a1] (kA K) KX := by
  refine gm_of hl (ret := (some (Jvm.ClassFile.FieldType.object "GlacierMail$Cond"))) rfl (Nat.le_of_ble_eq_true rfl) (fun X h hq => ?_)
  have h : hX l G X cX2_row 4 "GlacierMail$Reader" FR LO := h
  have hf := hf
  show V l G X bc bs M 0 [(0, .ref a0), (1, .int a1)] []
  have hf := hf
    (fun v0 v1 v2 v3 bc bs M => V l G X bc bs M 27 [(0, .ref v0), (1, .int v1), (2, .ref v2), (3, .ref v3)] [])
    (fun v0 v1 v2 v3 s0 s1 bc bs M => V l G X bc bs M 41 [(0, .ref v0), (1, .int v1), (2, .ref v2), (3, .ref v3)] [.ref s0, .ref s1])
    (by
      intro v0 v1 v2 v3 bc bs M hf
      show V l G X bc bs M 27 [(0, .ref v0), (1, .int v1), (2, .ref v2), (3, .ref v3)] []
      refine r_aload_n h 0 dX2_row_27 rfl rfl ?_
      refine r_iload_n h 1 dX2_row_28 rfl rfl ?_
      refine r_if_eq (tgt := 38) h dX2_row_29 (by decide) (fun c21 => ?_) (fun c21 => ?_)
      · have hf := ite_t c21 hf
        refine r_ldcwS h (i := 27) (by decide) (List.mem_of_getElem? (i := 27) rfl) dX2_row_38 (fun w22 kw22 => ?_)
        have hf := hf w22 kw22
        exact V.sub [0, 1, 2, 3] rfl hf
      · have hf := ite_f c21 hf
        refine r_ldcwS h (i := 26) (by decide) (List.mem_of_getElem? (i := 26) rfl) dX2_row_32 (fun w23 kw23 => ?_)
        have hf := hf w23 kw23
        refine r_goto (tgt := 41) h dX2_row_35 (by decide) ?_
        exact V.sub [0, 1, 2, 3] rfl hf)
    (by
      intro v0 v1 v2 v3 s0 s1 bc bs M hf
      show V l G X bc bs M 41 [(0, .ref v0), (1, .int v1), (2, .ref v2), (3, .ref v3)] [.ref s0, .ref s1]
      obtain ⟨k24, hf⟩ := hf
      refine c859 hl h dX2_row_41 k24 hf (Nat.le_of_ble_eq_true rfl) (by omega) (by omega) (fun x26 M25 hf => ?_)
      refine r_if_eq (tgt := 83) h dX2_row_44 (by decide) (fun c27 => ?_) (fun c27 => ?_)
      · have hf := ite_t c27 hf
        refine r_aload_n h 2 dX2_row_83 rfl rfl ?_
        exact r_areturn h hq dX2_row_84 ⟨_, rfl, hf⟩
      · have hf := ite_f c27 hf
        refine r_aload_n h 3 dX2_row_47 rfl rfl ?_
        obtain ⟨h28, h29, hf⟩ := hf
        refine n1024 h dX2_row_48 h28 h29 ?_
        refine r_goW (fun M30 eM30 => ?_)
        have hf := hf M30 eM30
        refine r_dup h dX2_row_51 rfl ?_
        refine r_iload_n h 1 dX2_row_52 rfl rfl ?_
        refine r_if_eq (tgt := 63) h dX2_row_53 (by decide) (fun c31 => ?_) (fun c31 => ?_)
        · have hf := ite_t c31 hf
          refine r_aload_n h 0 dX2_row_63 rfl rfl ?_
          refine r_iconst (v := 1) h dX2_row_64 (by decide) ?_
          obtain ⟨k32, hf⟩ := hf
          obtain ⟨c33, z34, h35, h36, hf⟩ := hf
          refine cm1020 h dX2_row_65 k32 (IH_X2_row hf) (Nat.le_of_ble_eq_true rfl) (by omega) (by omega) h35 h36 (fun b38 M37 hf => ?_) (fun q9 E9 M9 hf => r_out h hq hf)
          refine r_iload_n h 1 dX2_row_68 rfl rfl ?_
          refine c1095 hl h dX2_row_69 hf (Nat.le_of_ble_eq_true rfl) (by omega) (by omega) (fun M39 hf => ?_)
          obtain ⟨k40, hf⟩ := hf
          refine V.eqs (st' := va_rf (some (sz M25)) :: _) rfl ?_
          refine p1102 (b := (some (sz M25))) h dX2_row_72 k40 ?_
          refine r_goW (fun M41 eM41 => ?_)
          have hf := hf M41 eM41
          refine r_aload_n h 3 dX2_row_75 rfl rfl ?_
          obtain ⟨k42, hf⟩ := hf
          obtain ⟨b43, e44, hf⟩ := hf
          refine g1102 h dX2_row_76 k42 ?_
          refine V.eqs (congrArg (fun z => va_rf z :: _) e44) ?_
          refine r_astore_n (lv' := [(3, .ref b43), (0, .ref v0), (1, .int v1), (2, .ref v2)]) h dX2_row_79 rfl (by decide) rfl ?_
          refine r_goto (tgt := 27) h dX2_row_80 (by decide) ?_
          exact V.sub [1, 2, 3, 0] rfl hf
        · have hf := ite_f c31 hf
          refine r_aload_n h 0 dX2_row_56 rfl rfl ?_
          obtain ⟨k45, hf⟩ := hf
          obtain ⟨c46, z47, h48, h49, hf⟩ := hf
          refine cm1026 h dX2_row_57 k45 (IH_X2_atom hf) (Nat.le_of_ble_eq_true rfl) (by omega) (by omega) h48 h49 (fun b51 M50 hf => ?_) (fun q9 E9 M9 hf => r_out h hq hf)
          refine r_goto (tgt := 68) h dX2_row_60 (by decide) ?_
          refine r_iload_n h 1 dX2_row_68 rfl rfl ?_
          refine c1095 hl h dX2_row_69 hf (Nat.le_of_ble_eq_true rfl) (by omega) (by omega) (fun M52 hf => ?_)
          obtain ⟨k53, hf⟩ := hf
          refine V.eqs (st' := va_rf (some (sz M25)) :: _) rfl ?_
          refine p1102 (b := (some (sz M25))) h dX2_row_72 k53 ?_
          refine r_goW (fun M54 eM54 => ?_)
          have hf := hf M54 eM54
          refine r_aload_n h 3 dX2_row_75 rfl rfl ?_
          obtain ⟨k55, hf⟩ := hf
          obtain ⟨b56, e57, hf⟩ := hf
          refine g1102 h dX2_row_76 k55 ?_
          refine V.eqs (congrArg (fun z => va_rf z :: _) e57) ?_
          refine r_astore_n (lv' := [(3, .ref b56), (0, .ref v0), (1, .int v1), (2, .ref v2)]) h dX2_row_79 rfl (by decide) rfl ?_
          refine r_goto (tgt := 27) h dX2_row_80 (by decide) ?_
          exact V.sub [1, 2, 3, 0] rfl hf)
  obtain ⟨h1, h2, hf⟩ := hf
  refine n1024 h dX2_row_0 h1 h2 ?_
  refine r_goW (fun M3 eM3 => ?_)
  have hf := hf M3 eM3
  refine r_dup h dX2_row_3 rfl ?_
  refine r_iload_n h 1 dX2_row_4 rfl rfl ?_
  refine r_if_eq (tgt := 15) h dX2_row_5 (by decide) (fun c4 => ?_) (fun c4 => ?_)
  · have hf := ite_t c4 hf
    refine r_aload_n h 0 dX2_row_15 rfl rfl ?_
    refine r_iconst (v := 1) h dX2_row_16 (by decide) ?_
    obtain ⟨k5, hf⟩ := hf
    obtain ⟨c6, z7, h8, h9, hf⟩ := hf
    refine cm1020 h dX2_row_17 k5 (IH_X2_row hf) (Nat.le_of_ble_eq_true rfl) (by omega) (by omega) h8 h9 (fun b11 M10 hf => ?_) (fun q9 E9 M9 hf => r_out h hq hf)
    refine r_iload_n h 1 dX2_row_20 rfl rfl ?_
    refine c1095 hl h dX2_row_21 hf (Nat.le_of_ble_eq_true rfl) (by omega) (by omega) (fun M12 hf => ?_)
    refine r_astore_n (lv' := [(2, .ref (sz M)), (0, .ref a0), (1, .int a1)]) h dX2_row_24 rfl (by decide) rfl ?_
    refine r_aload_n h 0 dX2_row_25 rfl rfl ?_
    refine r_astore_n (lv' := [(3, .ref (sz M)), (2, .ref (sz M)), (0, .ref a0), (1, .int a1)]) h dX2_row_26 rfl (by decide) rfl ?_
    exact V.sub [2, 3, 1, 0] rfl hf
  · have hf := ite_f c4 hf
    refine r_aload_n h 0 dX2_row_8 rfl rfl ?_
    obtain ⟨k13, hf⟩ := hf
    obtain ⟨c14, z15, h16, h17, hf⟩ := hf
    refine cm1026 h dX2_row_9 k13 (IH_X2_atom hf) (Nat.le_of_ble_eq_true rfl) (by omega) (by omega) h16 h17 (fun b19 M18 hf => ?_) (fun q9 E9 M9 hf => r_out h hq hf)
    refine r_goto (tgt := 20) h dX2_row_12 (by decide) ?_
    refine r_iload_n h 1 dX2_row_20 rfl rfl ?_
    refine c1095 hl h dX2_row_21 hf (Nat.le_of_ble_eq_true rfl) (by omega) (by omega) (fun M20 hf => ?_)
    refine r_astore_n (lv' := [(2, .ref (sz M)), (0, .ref a0), (1, .int a1)]) h dX2_row_24 rfl (by decide) rfl ?_
    refine r_aload_n h 0 dX2_row_25 rfl rfl ?_
    refine r_astore_n (lv' := [(3, .ref (sz M)), (2, .ref (sz M)), (0, .ref a0), (1, .int a1)]) h dX2_row_26 rfl (by decide) rfl ?_
    exact V.sub [2, 3, 1, 0] rfl hf
def fx_X2 : Nat → (Nat → Nat → Nat → gM → (Nat → gM → Prop) → (Addr → String → gM → Prop) → Prop) × (Nat → Int32 → Nat → Nat → gM → (Nat → gM → Prop) → (Addr → String → gM → Prop) → Prop)
  | 0 => (fun _ _ _ _ _ _ => False, fun _ _ _ _ _ _ _ => False)
  | n + 1 => (f_X2_atom ((fx_X2 n).1) ((fx_X2 n).2), f_X2_row ((fx_X2 n).1) ((fx_X2 n).2))
theorem fm_X2 {l : Launch} (hl : l.stackTraces = false) {G : gG} : ∀ n : Nat, (∀ {a0 : Nat} {bc bs : Nat} {M : gM} {K : Nat → gM → Prop} {KX : Addr → String → gM → Prop}, (fx_X2 n).1 a0 bc bs M K KX → gMet l G yX2_atom (ws_ yX2_atom cX2_atom 5 (some (Jvm.ClassFile.FieldType.object "GlacierMail$Cond"))) ({ frames := n + 8, cells := bc, slots := bs, locals := 24 * n + 176 }) M [.ref a0] (kA K) KX) ∧ (∀ {a0 : Nat} {a1 : Int32} {bc bs : Nat} {M : gM} {K : Nat → gM → Prop} {KX : Addr → String → gM → Prop}, (fx_X2 n).2 a0 a1 bc bs M K KX → gMet l G yX2_row (ws_ yX2_row cX2_row 4 (some (Jvm.ClassFile.FieldType.object "GlacierMail$Cond"))) ({ frames := n + 8, cells := bc, slots := bs, locals := 24 * n + 176 }) M [.ref a0, .int a1] (kA K) KX)
  | 0 => ⟨fun h => h.elim, fun h => h.elim⟩
  | n + 1 => ⟨fun h => m_X2_atom hl (fm_X2 hl n).1 (fm_X2 hl n).2 (by omega) (by omega) (by omega) (by omega) h, fun h => m_X2_row hl (fm_X2 hl n).1 (fm_X2 hl n).2 (by omega) (by omega) (by omega) (by omega) h⟩
def f_X2_atomR (a0 : Nat) (bc bs : Nat) (M : gM) (K : Nat → gM → Prop) (KX : Addr → String → gM → Prop) : Prop := (fx_X2 22).1 a0 bc bs M K KX
theorem m_X2_atomR {l : Launch} (hl : l.stackTraces = false) {G : gG} : ∀ {a0 : Nat} {bc bs : Nat} {M : gM} {K : Nat → gM → Prop} {KX : Addr → String → gM → Prop}, f_X2_atomR a0 bc bs M K KX → gMet l G yX2_atom (ws_ yX2_atom cX2_atom 5 (some (Jvm.ClassFile.FieldType.object "GlacierMail$Cond"))) ({ frames := 30, cells := bc, slots := bs, locals := 704 }) M [.ref a0] (kA K) KX := fun h => (fm_X2 hl 22).1 h
theorem c1026 {l : Launch} {G : gG} {X : gX} {cc : ByteArray} {nL F L bc bs pc : Nat} {M : gM} {lv : List (Nat × Value)} {rest : List Value} {a0 : Nat} {c z : Nat} {K : Nat → gM → Prop} {KX : Addr → String → gM → Prop} (hl : l.stackTraces = false) (h : hX l G X cc nL "GlacierMail$Reader" F L) (d : decode cc pc = .ok (.invokevirtual 267, 3)) (hk : kd M a0 = some (.inl 2)) (hf : f_X2_atomR a0 c z M K KX) (hst : (rest.map fun v => v.category).sum ≤ 8) (hF : 31 ≤ F) (hL : 728 ≤ L) (h1 : c ≤ bc) (h2 : z ≤ bs) (kk : ∀ x M1, K x M1 → V l G X (bc - c) (bs - z) M1 (pc + 3) lv (.ref x :: rest)) (kx : ∀ q E M1, KX q E M1 → VX l G X (bc - c) (bs - z) M1 pc lv q E) : V l G X bc bs M pc lv (.ref a0 :: rest) := r_callV (n := 0) (As := []) h (m_X2_atomR hl hf) 2 rfl hk rfl ⟨by decide, by decide, by decide +kernel⟩ d q1026 q1028 qs25 q136 q1029 rfl rfl hst hF hL h1 h2 (kA_go kk) kx
def f_X2_rowR (a0 : Nat) (a1 : Int32) (bc bs : Nat) (M : gM) (K : Nat → gM → Prop) (KX : Addr → String → gM → Prop) : Prop := (fx_X2 22).2 a0 a1 bc bs M K KX
theorem m_X2_rowR {l : Launch} (hl : l.stackTraces = false) {G : gG} : ∀ {a0 : Nat} {a1 : Int32} {bc bs : Nat} {M : gM} {K : Nat → gM → Prop} {KX : Addr → String → gM → Prop}, f_X2_rowR a0 a1 bc bs M K KX → gMet l G yX2_row (ws_ yX2_row cX2_row 4 (some (Jvm.ClassFile.FieldType.object "GlacierMail$Cond"))) ({ frames := 30, cells := bc, slots := bs, locals := 704 }) M [.ref a0, .int a1] (kA K) KX := fun h => (fm_X2 hl 22).2 h
theorem c1020 {l : Launch} {G : gG} {X : gX} {cc : ByteArray} {nL F L bc bs pc : Nat} {M : gM} {lv : List (Nat × Value)} {rest : List Value} {a0 : Nat} {a1 : Int32} {c z : Nat} {K : Nat → gM → Prop} {KX : Addr → String → gM → Prop} (hl : l.stackTraces = false) (h : hX l G X cc nL "GlacierMail$Reader" F L) (d : decode cc pc = .ok (.invokevirtual 252, 3)) (hk : kd M a0 = some (.inl 2)) (hf : f_X2_rowR a0 a1 c z M K KX) (hst : (rest.map fun v => v.category).sum ≤ 8) (hF : 31 ≤ F) (hL : 727 ≤ L) (h1 : c ≤ bc) (h2 : z ≤ bs) (kk : ∀ x M1, K x M1 → V l G X (bc - c) (bs - z) M1 (pc + 3) lv (.ref x :: rest)) (kx : ∀ q E M1, KX q E M1 → VX l G X (bc - c) (bs - z) M1 pc lv q E) : V l G X bc bs M pc lv (.int a1 :: .ref a0 :: rest) := r_callV (n := 1) (As := [.int a1]) h (m_X2_rowR hl hf) 2 rfl hk rfl ⟨by decide, by decide, by decide +kernel⟩ d q1020 q1022 qs24 q136 q1023 rfl rfl hst hF hL h1 h2 (kA_go kk) kx
def f_X2_law (a0 : Nat) (a1 : Int32) (bc bs : Nat) (M : gM) (K : Int32 → gM → Prop) (KX : Addr → String → gM → Prop) : Prop :=
  ∀ P8 : Nat → Int32 → Nat → Nat → gM → Prop,
  ∀ P43 : Nat → Int32 → Int32 → Int32 → Nat → Nat → gM → Prop,
  ∀ P60 : Nat → Int32 → Int32 → Int32 → Nat → Nat → gM → Prop,
  ∀ P80 : Nat → Int32 → Int32 → Int32 → Int32 → Nat → Nat → gM → Prop,
  ∀ P100 : Nat → Int32 → Int32 → Int32 → Int32 → Option Nat → Nat → Nat → gM → Prop,
  ∀ P116 : Nat → Int32 → Int32 → Int32 → Option Nat → Int32 → Nat → Nat → Nat → gM → Prop,
  (∀ (v0 : Nat) (v2 : Int32) (bc bs : Nat) (M : gM), (kd M v0 = some (.inl 2) ∧ f_X2_more v0 v2 12 M (fun x5 M4 => if x5 = 0 then K v2 M4 else ∀ w7, kd M4 w7 = some (.inr (10, 21)) → kd M4 v0 = some (.inl 2) ∧ f_X2_takes v0 w7 M4 (fun x10 M9 => if x10 = 0 then ∀ w12, kd M9 w12 = some (.inr (10, 22)) → kd M9 v0 = some (.inl 2) ∧ f_X2_takes v0 w12 M9 (fun x15 M14 => if x15 = 0 then P43 v0 v2 x10 0 bc bs M14 else P43 v0 v2 x10 1 bc bs M14) else P43 v0 v2 x10 0 bc bs M9)) KX) → P8 v0 v2 bc bs M) →
  (∀ (v0 : Nat) (v2 : Int32) (v3 : Int32) (s0 : Int32) (bc bs : Nat) (M : gM), (if v3 = 0 then if s0 = 0 then ∀ w19, kd M w19 = some (.inr (10, 23)) → kd M v0 = some (.inl 2) ∧ f_X2_expect v0 w19 M (fun M21 => P60 v0 v2 v3 s0 bc bs M21) KX else P60 v0 v2 v3 s0 bc bs M else P60 v0 v2 v3 s0 bc bs M) → P43 v0 v2 v3 s0 bc bs M) →
  (∀ (v0 : Nat) (v2 : Int32) (v3 : Int32) (v4 : Int32) (bc bs : Nat) (M : gM), (if v3 = 0 then if v4 = 0 then P80 v0 v2 v3 v4 0 bc bs M else kd M v0 = some (.inl 2) ∧ f_X2_number v0 0 20 M (fun x29 M28 => P80 v0 v2 v3 v4 x29 bc bs M28) KX else kd M v0 = some (.inl 2) ∧ f_X2_number v0 0 20 M (fun x25 M24 => P80 v0 v2 v3 v4 x25 bc bs M24) KX) → P60 v0 v2 v3 v4 bc bs M) →
  (∀ (v0 : Nat) (v2 : Int32) (v3 : Int32) (v4 : Int32) (s0 : Int32) (bc bs : Nat) (M : gM), (∀ w30, kd M w30 = some (.inr (10, 24)) → kd M v0 = some (.inl 2) ∧ f_X2_takes v0 w30 M (fun x33 M32 => if x33 = 0 then P100 v0 v2 v3 v4 s0 none bc bs M32 else kd M32 v0 = some (.inl 2) ∧ ∃ c36 z37, c36 ≤ bc ∧ z37 ≤ bs ∧ f_X2_rowR v0 0 c36 z37 M32 (fun b41 M40 => P100 v0 v2 v3 v4 s0 (some b41) (bc - c36) (bs - z37) M40) KX)) → P80 v0 v2 v3 v4 s0 bc bs M) →
  (∀ (v0 : Nat) (v2 : Int32) (v3 : Int32) (v4 : Int32) (v5 : Int32) (s0 : Option Nat) (bc bs : Nat) (M : gM), (kd M v0 = some (.inl 2) ∧ ∃ b43, rv M v0 3 = some b43 ∧ if v3 = 0 then if v4 = 0 then 1 ≤ bc ∧ 1 ≤ bs ∧ ∀ M49, M49 = sN M (.inl 18) → f_X18_init (sz M) s0 M49 (fun M50 => inA M50 b43 4 v2 ∧ (kd M50 (sz M) = some (.inl 17) ∨ kd M50 (sz M) = some (.inl 18)) ∧ ∀ M53, M53 = sR M50 b43 (ix v2) (some (sz M)) → P8 v0 (v2 + 1) (bc - 1) (bs - 1) M53) else P116 v0 v2 v3 v5 s0 v2 b43 bc bs M else P116 v0 v2 v3 v5 s0 v2 b43 bc bs M) → P100 v0 v2 v3 v4 v5 s0 bc bs M) →
  (∀ (v0 : Nat) (v2 : Int32) (v3 : Int32) (v5 : Int32) (v6 : Option Nat) (s0 : Int32) (s1 : Nat) (bc bs : Nat) (M : gM), (1 ≤ bc ∧ 2 ≤ bs ∧ ∀ M56, M56 = sN M (.inl 17) → if v3 = 0 then f_X17_init (sz M) (-v5) v6 M56 (fun M58 => inA M58 s1 4 s0 ∧ (kd M58 (sz M) = some (.inl 17) ∨ kd M58 (sz M) = some (.inl 18)) ∧ ∀ M61, M61 = sR M58 s1 (ix s0) (some (sz M)) → P8 v0 (v2 + 1) (bc - 1) (bs - 2) M61) else f_X17_init (sz M) v5 v6 M56 (fun M62 => inA M62 s1 4 s0 ∧ (kd M62 (sz M) = some (.inl 17) ∨ kd M62 (sz M) = some (.inl 18)) ∧ ∀ M65, M65 = sR M62 s1 (ix s0) (some (sz M)) → P8 v0 (v2 + 1) (bc - 1) (bs - 2) M65)) → P116 v0 v2 v3 v5 v6 s0 s1 bc bs M) →
  kd M a0 = some (.inl 2) ∧ f_X2_begins a0 a1 3 M (fun M2 => P8 a0 0 bc bs M2)
set_option maxHeartbeats 4000000 in
theorem m_X2_law {l : Launch} (hl : l.stackTraces = false) {G : gG} {a0 : Nat} {a1 : Int32} {bc bs : Nat} {M : gM} {K : Int32 → gM → Prop} {KX : Addr → String → gM → Prop} (hf : f_X2_law a0 a1 bc bs M K KX) : gMet l G yX2_law (ws_ yX2_law cX2_law 7 (some Jvm.ClassFile.FieldType.int)) ({ frames := 31, cells := bc, slots := bs, locals := 727 }) M [.ref a0, .int a1] (kI K) KX := by
  refine gm_of hl (ret := (some Jvm.ClassFile.FieldType.int)) rfl (Nat.le_of_ble_eq_true rfl) (fun X h hq => ?_)
  have h : hX l G X cX2_law 7 "GlacierMail$Reader" 31 727 := h
  have hf := hf
  show V l G X bc bs M 0 [(0, .ref a0), (1, .int a1)] []
  have hf := hf
    (fun v0 v2 bc bs M => V l G X bc bs M 8 [(0, .ref v0), (2, .int v2)] [])
    (fun v0 v2 v3 s0 bc bs M => V l G X bc bs M 43 [(0, .ref v0), (2, .int v2), (3, .int v3)] [.int s0])
    (fun v0 v2 v3 v4 bc bs M => V l G X bc bs M 60 [(0, .ref v0), (2, .int v2), (3, .int v3), (4, .int v4)] [])
    (fun v0 v2 v3 v4 s0 bc bs M => V l G X bc bs M 80 [(0, .ref v0), (2, .int v2), (3, .int v3), (4, .int v4)] [.int s0])
    (fun v0 v2 v3 v4 v5 s0 bc bs M => V l G X bc bs M 100 [(0, .ref v0), (2, .int v2), (3, .int v3), (4, .int v4), (5, .int v5)] [va_rf s0])
    (fun v0 v2 v3 v5 v6 s0 s1 bc bs M => V l G X bc bs M 116 [(0, .ref v0), (2, .int v2), (3, .int v3), (5, .int v5), (6, va_rf v6)] [.int s0, .ref s1])
    (by
      intro v0 v2 bc bs M hf
      show V l G X bc bs M 8 [(0, .ref v0), (2, .int v2)] []
      refine r_aload_n h 0 dX2_law_8 rfl rfl ?_
      refine r_iload_n h 1 dX2_law_9 rfl rfl ?_
      refine r_bipush (v := 12) h dX2_law_10 (by decide) ?_
      obtain ⟨k3, hf⟩ := hf
      refine c842 hl h dX2_law_12 k3 hf (Nat.le_of_ble_eq_true rfl) (by decide) (by decide) (fun x5 M4 hf => ?_) (fun q9 E9 M9 hf => r_out h hq hf)
      refine r_if_eq (tgt := 156) h dX2_law_15 (by decide) (fun c6 => ?_) (fun c6 => ?_)
      · have hf := ite_t c6 hf
        refine r_iload_n h 1 dX2_law_156 rfl rfl ?_
        exact r_ireturn h hq dX2_law_157 ⟨_, rfl, hf⟩
      · have hf := ite_f c6 hf
        refine r_aload_n h 0 dX2_law_18 rfl rfl ?_
        refine r_ldcS h (i := 21) (by decide) (List.mem_of_getElem? (i := 21) rfl) dX2_law_19 (fun w7 kw7 => ?_)
        have hf := hf w7 kw7
        obtain ⟨k8, hf⟩ := hf
        refine c859 hl h dX2_law_21 k8 hf (Nat.le_of_ble_eq_true rfl) (by decide) (by decide) (fun x10 M9 hf => ?_)
        refine r_istore_n (lv' := [(3, .int x10), (0, .ref v0), (2, .int v2)]) h dX2_law_24 rfl (by decide) rfl ?_
        refine r_iload_n h 0 dX2_law_25 rfl rfl ?_
        refine r_if_ne (tgt := 42) h dX2_law_26 (by decide) (fun c11 => ?_) (fun c11 => ?_)
        · have hf := ite_f c11 hf
          refine r_iconst (v := 0) h dX2_law_42 (by decide) ?_
          exact V.sub [1, 2, 0] rfl hf
        · have hf := ite_t c11 hf
          refine r_aload_n h 1 dX2_law_29 rfl rfl ?_
          refine r_ldcS h (i := 22) (by decide) (List.mem_of_getElem? (i := 22) rfl) dX2_law_30 (fun w12 kw12 => ?_)
          have hf := hf w12 kw12
          obtain ⟨k13, hf⟩ := hf
          refine c859 hl h dX2_law_32 k13 hf (Nat.le_of_ble_eq_true rfl) (by decide) (by decide) (fun x15 M14 hf => ?_)
          refine r_if_eq (tgt := 42) h dX2_law_35 (by decide) (fun c16 => ?_) (fun c16 => ?_)
          · have hf := ite_t c16 hf
            refine r_iconst (v := 0) h dX2_law_42 (by decide) ?_
            exact V.sub [1, 2, 0] rfl hf
          · have hf := ite_f c16 hf
            refine r_iconst (v := 1) h dX2_law_38 (by decide) ?_
            refine r_goto (tgt := 43) h dX2_law_39 (by decide) ?_
            exact V.sub [1, 2, 0] rfl hf)
    (by
      intro v0 v2 v3 s0 bc bs M hf
      show V l G X bc bs M 43 [(0, .ref v0), (2, .int v2), (3, .int v3)] [.int s0]
      refine r_istore (lv' := [(4, .int s0), (0, .ref v0), (2, .int v2), (3, .int v3)]) h dX2_law_43 (by decide) rfl ?_
      refine r_iload_n h 3 dX2_law_45 rfl rfl ?_
      refine r_if_ne (tgt := 60) h dX2_law_46 (by decide) (fun c17 => ?_) (fun c17 => ?_)
      · have hf := ite_f c17 hf
        exact V.sub [1, 2, 3, 0] rfl hf
      · have hf := ite_t c17 hf
        refine r_iload h 0 dX2_law_49 rfl ?_
        refine r_if_ne (tgt := 60) h dX2_law_51 (by decide) (fun c18 => ?_) (fun c18 => ?_)
        · have hf := ite_f c18 hf
          exact V.sub [1, 2, 3, 0] rfl hf
        · have hf := ite_t c18 hf
          refine r_aload_n h 1 dX2_law_54 rfl rfl ?_
          refine r_ldcS h (i := 23) (by decide) (List.mem_of_getElem? (i := 23) rfl) dX2_law_55 (fun w19 kw19 => ?_)
          have hf := hf w19 kw19
          obtain ⟨k20, hf⟩ := hf
          refine c935 hl h dX2_law_57 k20 hf (Nat.le_of_ble_eq_true rfl) (by decide) (by decide) (fun M21 hf => ?_) (fun q9 E9 M9 hf => r_out h hq hf)
          exact V.sub [1, 2, 3, 0] rfl hf)
    (by
      intro v0 v2 v3 v4 bc bs M hf
      show V l G X bc bs M 60 [(0, .ref v0), (2, .int v2), (3, .int v3), (4, .int v4)] []
      refine r_iload_n h 2 dX2_law_60 rfl rfl ?_
      refine r_if_ne (tgt := 69) h dX2_law_61 (by decide) (fun c22 => ?_) (fun c22 => ?_)
      · have hf := ite_f c22 hf
        refine r_aload_n h 0 dX2_law_69 rfl rfl ?_
        refine r_iconst (v := 0) h dX2_law_70 (by decide) ?_
        refine r_bipush (v := 20) h dX2_law_71 (by decide) ?_
        obtain ⟨k23, hf⟩ := hf
        refine c915 hl h dX2_law_73 k23 hf (Nat.le_of_ble_eq_true rfl) (by decide) (by decide) (fun x25 M24 hf => ?_) (fun q9 E9 M9 hf => r_out h hq hf)
        refine r_goto (tgt := 80) h dX2_law_76 (by decide) ?_
        exact V.sub [0, 1, 2, 3] rfl hf
      · have hf := ite_t c22 hf
        refine r_iload h 3 dX2_law_64 rfl ?_
        refine r_if_eq (tgt := 79) h dX2_law_66 (by decide) (fun c26 => ?_) (fun c26 => ?_)
        · have hf := ite_t c26 hf
          refine r_iconst (v := 0) h dX2_law_79 (by decide) ?_
          exact V.sub [0, 1, 2, 3] rfl hf
        · have hf := ite_f c26 hf
          refine r_aload_n h 0 dX2_law_69 rfl rfl ?_
          refine r_iconst (v := 0) h dX2_law_70 (by decide) ?_
          refine r_bipush (v := 20) h dX2_law_71 (by decide) ?_
          obtain ⟨k27, hf⟩ := hf
          refine c915 hl h dX2_law_73 k27 hf (Nat.le_of_ble_eq_true rfl) (by decide) (by decide) (fun x29 M28 hf => ?_) (fun q9 E9 M9 hf => r_out h hq hf)
          refine r_goto (tgt := 80) h dX2_law_76 (by decide) ?_
          exact V.sub [0, 1, 2, 3] rfl hf)
    (by
      intro v0 v2 v3 v4 s0 bc bs M hf
      show V l G X bc bs M 80 [(0, .ref v0), (2, .int v2), (3, .int v3), (4, .int v4)] [.int s0]
      refine r_istore (lv' := [(5, .int s0), (0, .ref v0), (2, .int v2), (3, .int v3), (4, .int v4)]) h dX2_law_80 (by decide) rfl ?_
      refine r_aload_n h 1 dX2_law_82 rfl rfl ?_
      refine r_ldcS h (i := 24) (by decide) (List.mem_of_getElem? (i := 24) rfl) dX2_law_83 (fun w30 kw30 => ?_)
      have hf := hf w30 kw30
      obtain ⟨k31, hf⟩ := hf
      refine c859 hl h dX2_law_85 k31 hf (Nat.le_of_ble_eq_true rfl) (by decide) (by decide) (fun x33 M32 hf => ?_)
      refine r_if_eq (tgt := 99) h dX2_law_88 (by decide) (fun c34 => ?_) (fun c34 => ?_)
      · have hf := ite_t c34 hf
        refine r_aconst_null h dX2_law_99 ?_
        exact V.sub [1, 2, 3, 4, 0] rfl hf
      · have hf := ite_f c34 hf
        refine r_aload_n h 1 dX2_law_91 rfl rfl ?_
        refine r_iconst (v := 0) h dX2_law_92 (by decide) ?_
        obtain ⟨k35, hf⟩ := hf
        obtain ⟨c36, z37, h38, h39, hf⟩ := hf
        refine c1020 hl h dX2_law_93 k35 hf (Nat.le_of_ble_eq_true rfl) (by decide) (by decide) h38 h39 (fun b41 M40 hf => ?_) (fun q9 E9 M9 hf => r_out h hq hf)
        refine r_goto (tgt := 100) h dX2_law_96 (by decide) ?_
        exact V.sub [1, 2, 3, 4, 0] rfl hf)
    (by
      intro v0 v2 v3 v4 v5 s0 bc bs M hf
      show V l G X bc bs M 100 [(0, .ref v0), (2, .int v2), (3, .int v3), (4, .int v4), (5, .int v5)] [va_rf s0]
      refine r_astoreO (lv' := [(6, va_rf s0), (0, .ref v0), (2, .int v2), (3, .int v3), (4, .int v4), (5, .int v5)]) h dX2_law_100 (by decide) rfl ?_
      refine r_aload_n h 1 dX2_law_102 rfl rfl ?_
      obtain ⟨k42, hf⟩ := hf
      obtain ⟨b43, e44, hf⟩ := hf
      refine g511 h dX2_law_103 k42 e44 ?_
      refine r_iload_n h 2 dX2_law_106 rfl rfl ?_
      refine r_iload_n h 3 dX2_law_107 rfl rfl ?_
      refine r_if_ne (tgt := 116) h dX2_law_108 (by decide) (fun c45 => ?_) (fun c45 => ?_)
      · have hf := ite_f c45 hf
        exact V.sub [1, 2, 3, 5, 0] rfl hf
      · have hf := ite_t c45 hf
        refine r_iload h 4 dX2_law_111 rfl ?_
        refine r_if_eq (tgt := 140) h dX2_law_113 (by decide) (fun c46 => ?_) (fun c46 => ?_)
        · have hf := ite_t c46 hf
          obtain ⟨h47, h48, hf⟩ := hf
          refine n1128 h dX2_law_140 h47 h48 ?_
          refine r_goW (fun M49 eM49 => ?_)
          have hf := hf M49 eM49
          refine r_dup h dX2_law_143 rfl ?_
          refine r_aloadO h 0 dX2_law_144 rfl ?_
          refine c1130 hl h dX2_law_146 hf (Nat.le_of_ble_eq_true rfl) (by decide) (by decide) (fun M50 hf => ?_)
          obtain ⟨j51, hf⟩ := hf
          obtain ⟨k52, hf⟩ := hf
          refine r_aastoreL h dX2_law_149 j51 k52 ?_
          refine r_goW (fun M53 eM53 => ?_)
          have hf := hf M53 eM53
          refine r_iinc (v := v2 + 1) (lv' := [(2, .int (v2 + 1)), (6, va_rf s0), (0, .ref v0), (3, .int v3), (4, .int v4), (5, .int v5)]) h 2 dX2_law_150 rfl rfl (by decide) rfl ?_
          refine r_goto (tgt := 8) h dX2_law_153 (by decide) ?_
          exact V.sub [2, 0] rfl hf
        · have hf := ite_f c46 hf
          exact V.sub [1, 2, 3, 5, 0] rfl hf)
    (by
      intro v0 v2 v3 v5 v6 s0 s1 bc bs M hf
      show V l G X bc bs M 116 [(0, .ref v0), (2, .int v2), (3, .int v3), (5, .int v5), (6, va_rf v6)] [.int s0, .ref s1]
      obtain ⟨h54, h55, hf⟩ := hf
      refine n1112 h dX2_law_116 h54 h55 ?_
      refine r_goW (fun M56 eM56 => ?_)
      have hf := hf M56 eM56
      refine r_dup h dX2_law_119 rfl ?_
      refine r_iload_n h 2 dX2_law_120 rfl rfl ?_
      refine r_if_eq (tgt := 129) h dX2_law_121 (by decide) (fun c57 => ?_) (fun c57 => ?_)
      · have hf := ite_t c57 hf
        refine r_iload h 3 dX2_law_129 rfl ?_
        refine r_ineg h dX2_law_131 ?_
        refine r_aloadO h 4 dX2_law_132 rfl ?_
        refine c1114 hl h dX2_law_134 hf (Nat.le_of_ble_eq_true rfl) (by decide) (by decide) (fun M58 hf => ?_)
        refine r_goto (tgt := 149) h dX2_law_137 (by decide) ?_
        obtain ⟨j59, hf⟩ := hf
        obtain ⟨k60, hf⟩ := hf
        refine r_aastoreL h dX2_law_149 j59 k60 ?_
        refine r_goW (fun M61 eM61 => ?_)
        have hf := hf M61 eM61
        refine r_iinc (v := v2 + 1) (lv' := [(2, .int (v2 + 1)), (0, .ref v0), (3, .int v3), (5, .int v5), (6, va_rf v6)]) h 1 dX2_law_150 rfl rfl (by decide) rfl ?_
        refine r_goto (tgt := 8) h dX2_law_153 (by decide) ?_
        exact V.sub [1, 0] rfl hf
      · have hf := ite_f c57 hf
        refine r_iload h 3 dX2_law_124 rfl ?_
        refine r_goto (tgt := 132) h dX2_law_126 (by decide) ?_
        refine r_aloadO h 4 dX2_law_132 rfl ?_
        refine c1114 hl h dX2_law_134 hf (Nat.le_of_ble_eq_true rfl) (by decide) (by decide) (fun M62 hf => ?_)
        refine r_goto (tgt := 149) h dX2_law_137 (by decide) ?_
        obtain ⟨j63, hf⟩ := hf
        obtain ⟨k64, hf⟩ := hf
        refine r_aastoreL h dX2_law_149 j63 k64 ?_
        refine r_goW (fun M65 eM65 => ?_)
        have hf := hf M65 eM65
        refine r_iinc (v := v2 + 1) (lv' := [(2, .int (v2 + 1)), (0, .ref v0), (3, .int v3), (5, .int v5), (6, va_rf v6)]) h 1 dX2_law_150 rfl rfl (by decide) rfl ?_
        refine r_goto (tgt := 8) h dX2_law_153 (by decide) ?_
        exact V.sub [1, 0] rfl hf)
  refine r_aload_n h 0 dX2_law_0 rfl rfl ?_
  refine r_iload_n h 1 dX2_law_1 rfl rfl ?_
  refine r_iconst (v := 3) h dX2_law_2 (by decide) ?_
  obtain ⟨k1, hf⟩ := hf
  refine c837 hl h dX2_law_3 k1 hf (Nat.le_of_ble_eq_true rfl) (by decide) (by decide) (fun M2 hf => ?_)
  refine r_iconst (v := 0) h dX2_law_6 (by decide) ?_
  refine r_istore_n (lv' := [(2, .int 0), (0, .ref a0), (1, .int a1)]) h dX2_law_7 rfl (by decide) rfl ?_
  exact V.sub [1, 0] rfl hf
theorem c1012 {l : Launch} {G : gG} {X : gX} {cc : ByteArray} {nL F L bc bs pc : Nat} {M : gM} {lv : List (Nat × Value)} {rest : List Value} {a0 : Nat} {a1 : Int32} {c z : Nat} {K : Int32 → gM → Prop} {KX : Addr → String → gM → Prop} (hl : l.stackTraces = false) (h : hX l G X cc nL "GlacierMail" F L) (d : decode cc pc = .ok (.invokevirtual 155, 3)) (hk : kd M a0 = some (.inl 2)) (hf : f_X2_law a0 a1 c z M K KX) (hst : (rest.map fun v => v.category).sum ≤ 8) (hF : 32 ≤ F) (hL : 753 ≤ L) (h1 : c ≤ bc) (h2 : z ≤ bs) (kk : ∀ x M1, K x M1 → V l G X (bc - c) (bs - z) M1 (pc + 3) lv (.int x :: rest)) (kx : ∀ q E M1, KX q E M1 → VX l G X (bc - c) (bs - z) M1 pc lv q E) : V l G X bc bs M pc lv (.int a1 :: .ref a0 :: rest) := r_callV (n := 1) (As := [.int a1]) h (m_X2_law hl hf) 2 rfl hk rfl ⟨by decide, by decide, by decide +kernel⟩ d q1012 q1013 q1014 q136 q1015 rfl rfl hst hF hL h1 h2 (kI_go kk) kx
def f_X1_law (a0 : Nat) (bc bs : Nat) (M : gM) (K : Int32 → gM → Prop) (KX : Addr → String → gM → Prop) : Prop :=
  kd M a0 = some (.inl 1) ∧ f_X1_took a0 M (fun x3 M2 => kd M2 a0 = some (.inl 1) ∧ ∀ M5, M5 = sI M2 a0 11 (-1) → kd M5 a0 = some (.inl 1) ∧ ∃ b7, rv M5 a0 1 = some b7 ∧ ∃ b9, rv M5 a0 0 = some b9 ∧ kd M5 b9 = some (.inl 2) ∧ ∃ c12 z13, c12 ≤ bc ∧ z13 ≤ bs ∧ f_X2_law b9 x3 c12 z13 M5 (fun x17 M16 => kd M16 b7 = some (.inl 3) ∧ ∀ M19, M19 = sI M16 b7 16 x17 → kd M19 a0 = some (.inl 1) ∧ ∃ b21, rv M19 a0 0 = some b21 ∧ kd M19 b21 = some (.inl 2) ∧ ∃ b24, rv M19 b21 3 = some b24 ∧ ∃ b26, rv M19 a0 1 = some b26 ∧ kd M19 b26 = some (.inl 3) ∧ ∃ b29, rv M19 b26 5 = some b29 ∧ okCR M19 b24 b29 12 ∧ ∀ M32, M32 = sCR M19 b29 (va_cpy (rv M19 b24) (rv M19 b29) 0 0 12) → kd M32 a0 = some (.inl 1) ∧ ∀ M34, M34 = sI M32 a0 12 0 → kd M34 a0 = some (.inl 1) ∧ ∀ M36, M36 = sI M34 a0 14 (-1) → kd M36 a0 = some (.inl 1) ∧ ∃ b38, rv M36 a0 1 = some b38 ∧ kd M36 b38 = some (.inl 3) ∧ K (iv M36 b38 16) M36) (fun q9 E9 M9 => (E9 = "GlacierMail$Wrong" ∧ kd M9 a0 = some (.inl 1) ∧ 1 ≤ bc - c12 ∧ 6 ≤ bs - z13 ∧ f_X1_isWrong a0 q9 M9 (fun b45 M44 => kd M44 b45 = some (.inl 19) ∧ KX b45 "java/lang/IllegalArgumentException" M44))))
set_option maxHeartbeats 4000000 in
theorem m_X1_law {l : Launch} (hl : l.stackTraces = false) {G : gG} {a0 : Nat} {bc bs : Nat} {M : gM} {K : Int32 → gM → Prop} {KX : Addr → String → gM → Prop} (hf : f_X1_law a0 bc bs M K KX) : gMet l G yX1_law (wsW_ yX1_law cX1_law 3 (some Jvm.ClassFile.FieldType.int) [(10, 25, 28, 126)]) ({ frames := 32, cells := bc, slots := bs, locals := 753 }) M [.ref a0] (kI K) KX := by
  refine gm_ofH hl (ret := (some Jvm.ClassFile.FieldType.int)) rfl (Nat.le_of_ble_eq_true rfl) (fun X h hq => ?_)
  have h : hX l G X cX1_law 3 "GlacierMail" 32 753 := h
  have hf := hf
  show V l G X bc bs M 0 [(0, .ref a0)] []
  unfold f_X1_law at hf
  refine r_aload_n h 0 dX1_law_0 rfl rfl ?_
  obtain ⟨k1, hf⟩ := hf
  refine c829 hl h dX1_law_1 k1 hf (Nat.le_of_ble_eq_true rfl) (by decide) (by decide) (fun x3 M2 hf => ?_)
  refine r_istore_n (lv' := [(1, .int x3), (0, .ref a0)]) h dX1_law_4 rfl (by decide) rfl ?_
  refine r_aload_n h 1 dX1_law_5 rfl rfl ?_
  refine r_iconst (v := (-1)) h dX1_law_6 (by decide) ?_
  obtain ⟨k4, hf⟩ := hf
  refine p584 h dX1_law_7 k4 ?_
  refine r_goW (fun M5 eM5 => ?_)
  have hf := hf M5 eM5
  refine r_aload_n h 1 dX1_law_10 rfl rfl ?_
  obtain ⟨k6, hf⟩ := hf
  obtain ⟨b7, e8, hf⟩ := hf
  refine g573 h dX1_law_11 k6 e8 ?_
  refine r_aload_n h 1 dX1_law_14 rfl rfl ?_
  obtain ⟨b9, e10, hf⟩ := hf
  refine g572 h dX1_law_15 k6 e10 ?_
  refine r_iload_n h 0 dX1_law_18 rfl rfl ?_
  obtain ⟨k11, hf⟩ := hf
  obtain ⟨c12, z13, h14, h15, hf⟩ := hf
  refine c1012 hl h dX1_law_19 k11 hf (Nat.le_of_ble_eq_true rfl) (by decide) (by decide) h14 h15 (fun x17 M16 hf => ?_) (fun q9 E9 M9 hf => ?_)
  · skip
    obtain ⟨k18, hf⟩ := hf
    refine p364 h dX1_law_22 k18 ?_
    refine r_goW (fun M19 eM19 => ?_)
    have hf := hf M19 eM19
    refine r_goto (tgt := 35) h dX1_law_25 (by decide) ?_
    refine r_aload_n h 1 dX1_law_35 rfl rfl ?_
    obtain ⟨k20, hf⟩ := hf
    obtain ⟨b21, e22, hf⟩ := hf
    refine g572 h dX1_law_36 k20 e22 ?_
    obtain ⟨k23, hf⟩ := hf
    obtain ⟨b24, e25, hf⟩ := hf
    refine g512 h dX1_law_39 k23 e25 ?_
    refine r_iconst (v := 0) h dX1_law_42 (by decide) ?_
    refine r_aload_n h 1 dX1_law_43 rfl rfl ?_
    obtain ⟨b26, e27, hf⟩ := hf
    refine g573 h dX1_law_44 k20 e27 ?_
    obtain ⟨k28, hf⟩ := hf
    obtain ⟨b29, e30, hf⟩ := hf
    refine g335 h dX1_law_47 k28 e30 ?_
    refine r_iconst (v := 0) h dX1_law_50 (by decide) ?_
    refine r_bipush (v := 12) h dX1_law_51 (by decide) ?_
    obtain ⟨j31, hf⟩ := hf
    refine r_copyq (n0 := 12) h q1136 q781 q780 q148 dX1_law_53 (by decide) (by decide) (Nat.le_of_ble_eq_true rfl) (by decide) (by decide) j31 ?_
    refine r_goW (fun M32 eM32 => ?_)
    have hf := hf M32 eM32
    refine r_aload_n h 1 dX1_law_56 rfl rfl ?_
    refine r_iconst (v := 0) h dX1_law_57 (by decide) ?_
    obtain ⟨k33, hf⟩ := hf
    refine p585 h dX1_law_58 k33 ?_
    refine r_goW (fun M34 eM34 => ?_)
    have hf := hf M34 eM34
    refine r_aload_n h 1 dX1_law_61 rfl rfl ?_
    refine r_iconst (v := (-1)) h dX1_law_62 (by decide) ?_
    obtain ⟨k35, hf⟩ := hf
    refine p587 h dX1_law_63 k35 ?_
    refine r_goW (fun M36 eM36 => ?_)
    have hf := hf M36 eM36
    refine r_aload_n h 1 dX1_law_66 rfl rfl ?_
    obtain ⟨k37, hf⟩ := hf
    obtain ⟨b38, e39, hf⟩ := hf
    refine g573 h dX1_law_67 k37 e39 ?_
    obtain ⟨k40, hf⟩ := hf
    refine g364 h dX1_law_70 k40 ?_
    exact r_ireturn h hq dX1_law_73 ⟨_, rfl, hf⟩
  · rcases hf with ⟨rfl, hf⟩
    · refine r_catch h hq 0 (E := "GlacierMail$Wrong") (nm := "GlacierMail$Wrong") rfl (fun z hz => nomatch hz) (by decide) (by decide) q828 (List.mem_of_getElem? (i := 0) rfl) ?_
      refine r_astore_n (lv' := [(2, .ref q9), (1, .int x3), (0, .ref a0)]) h dX1_law_28 rfl (by decide) rfl ?_
      refine r_aload_n h 2 dX1_law_29 rfl rfl ?_
      refine r_aload_n h 0 dX1_law_30 rfl rfl ?_
      obtain ⟨k41, hf⟩ := hf
      obtain ⟨h42, h43, hf⟩ := hf
      refine c962 hl h dX1_law_31 k41 hf (Nat.le_of_ble_eq_true rfl) (by decide) (by decide) h42 h43 (fun b45 M44 hf => ?_)
      obtain ⟨k46, hf⟩ := hf
      exact r_athrow h 19 rfl dX1_law_34 k46 (r_outH h hq (by decide) hf)
theorem c1008 {l : Launch} {G : gG} {X : gX} {cc : ByteArray} {nL F L bc bs pc : Nat} {M : gM} {lv : List (Nat × Value)} {rest : List Value} {a0 : Nat} {c z : Nat} {K : Int32 → gM → Prop} {KX : Addr → String → gM → Prop} (hl : l.stackTraces = false) (h : hX l G X cc nL "GlacierMailLaw" F L) (d : decode cc pc = .ok (.invokevirtual 17, 3)) (hk : kd M a0 = some (.inl 1)) (hf : f_X1_law a0 c z M K KX) (hst : (rest.map fun v => v.category).sum ≤ 8) (hF : 33 ≤ F) (hL : 775 ≤ L) (h1 : c ≤ bc) (h2 : z ≤ bs) (kk : ∀ x M1, K x M1 → V l G X (bc - c) (bs - z) M1 (pc + 3) lv (.int x :: rest)) (kx : ∀ q E M1, KX q E M1 → VX l G X (bc - c) (bs - z) M1 pc lv q E) : V l G X bc bs M pc lv (.ref a0 :: rest) := r_callVH (n := 0) (As := []) h (m_X1_law hl hf) 1 rfl hk rfl ⟨by decide, by decide, by decide +kernel⟩ d q1008 q1009 q1010 q135 q1011 rfl rfl hst hF hL h1 h2 (kI_go kk) kx
def f_X0_law (a0 : Nat) (a1 : Nat) (bc bs : Nat) (M : gM) (K : Int32 → gM → Prop) : Prop :=
  kd M a0 = some (.inl 1) ∧ ∃ c2 z3, c2 ≤ bc ∧ z3 ≤ bs ∧ f_X1_law a0 c2 z3 M (fun x7 M6 => inA M6 a1 2 0 ∧ ∀ M9, M9 = sJ M6 a1 (ix 0) (x7.toInt64) → K 0 M9) (fun q9 E9 M9 => (E9 = "java/lang/IllegalArgumentException" ∧ K 1 M9))
set_option maxHeartbeats 4000000 in
theorem m_X0_law {l : Launch} (hl : l.stackTraces = false) {G : gG} {a0 : Nat} {a1 : Nat} {bc bs : Nat} {M : gM} {K : Int32 → gM → Prop} (hf : f_X0_law a0 a1 bc bs M K) : gMet l G yX0_law (wsW_ yX0_law cX0_law 3 (some Jvm.ClassFile.FieldType.int) [(0, 8, 11, 13)]) ({ frames := 33, cells := bc, slots := bs, locals := 775 }) M [.ref a0, .ref a1] (kI K) kN := by
  refine gm_ofH hl (ret := (some Jvm.ClassFile.FieldType.int)) rfl (Nat.le_of_ble_eq_true rfl) (fun X h hq => ?_)
  have h : hX l G X cX0_law 3 "GlacierMailLaw" 33 775 := h
  have hf := hf
  show V l G X bc bs M 0 [(0, .ref a0), (1, .ref a1)] []
  unfold f_X0_law at hf
  refine r_aload_n h 1 dX0_law_0 rfl rfl ?_
  refine r_iconst (v := 0) h dX0_law_1 (by decide) ?_
  refine r_aload_n h 0 dX0_law_2 rfl rfl ?_
  obtain ⟨k1, hf⟩ := hf
  obtain ⟨c2, z3, h4, h5, hf⟩ := hf
  refine c1008 hl h dX0_law_3 k1 hf (Nat.le_of_ble_eq_true rfl) (by decide) (by decide) h4 h5 (fun x7 M6 hf => ?_) (fun q9 E9 M9 hf => ?_)
  · skip
    refine r_i2l h dX0_law_6 ?_
    obtain ⟨j8, hf⟩ := hf
    refine r_lastore h dX0_law_7 j8 ?_
    refine r_goW (fun M9 eM9 => ?_)
    have hf := hf M9 eM9
    refine r_goto (tgt := 14) h dX0_law_8 (by decide) ?_
    refine r_iconst (v := 0) h dX0_law_14 (by decide) ?_
    exact r_ireturn h hq dX0_law_15 ⟨_, rfl, hf⟩
  · rcases hf with ⟨rfl, hf⟩
    · refine r_catch h hq 0 (E := "java/lang/IllegalArgumentException") (nm := "java/lang/IllegalArgumentException") rfl (fun z hz => nomatch hz) (by decide) (by decide) q822 (List.mem_of_getElem? (i := 5) rfl) ?_
      refine r_astore_n (lv' := [(2, .ref q9), (0, .ref a0), (1, .ref a1)]) h dX0_law_11 rfl (by decide) rfl ?_
      refine r_iconst (v := 1) h dX0_law_12 (by decide) ?_
      exact r_ireturn h hq dX0_law_13 ⟨_, rfl, hf⟩
theorem c1005 {l : Launch} {G : gG} {X : gX} {cc : ByteArray} {nL F L bc bs pc : Nat} {M : gM} {lv : List (Nat × Value)} {rest : List Value} {a0 : Nat} {a1 : Nat} {c z : Nat} {K : Int32 → gM → Prop} (hl : l.stackTraces = false) (h : hX l G X cc nL "GlacierMailLaw" F L) (d : decode cc pc = .ok (.invokestatic 158, 3)) (hf : f_X0_law a0 a1 c z M K) (hst : (rest.map fun v => v.category).sum ≤ 8) (hF : 34 ≤ F) (hL : 797 ≤ L) (h1 : c ≤ bc) (h2 : z ≤ bs) (kk : ∀ x M1, K x M1 → V l G X (bc - c) (bs - z) M1 (pc + 3) lv (.int x :: rest)) : V l G X bc bs M pc lv (.ref a1 :: .ref a0 :: rest) := r_callSH (n := 2) (As := [.ref a0, .ref a1]) h (m_X0_law hl hf) ⟨by decide, by decide, by decide +kernel⟩ d q1005 q1006 q134 q1007 rfl rfl hst hF hL h1 h2 (kI_go kk) kN_go
def f_X1_isIn (a0 : Int32) (a1 : Int32) (a2 : Int32) (M : gM) (K : Int32 → gM → Prop) : Prop :=
  if a0 < a1 then K 0 M else if a2 < a0 then K 0 M else K 1 M
set_option maxHeartbeats 4000000 in
theorem m_X1_isIn {l : Launch} (hl : l.stackTraces = false) {G : gG} {a0 : Int32} {a1 : Int32} {a2 : Int32} {M : gM} {K : Int32 → gM → Prop} (hf : f_X1_isIn a0 a1 a2 M K) : gMet l G yX1_isIn (ws_ yX1_isIn cX1_isIn 3 (some Jvm.ClassFile.FieldType.boolean)) ({ frames := 0, cells := 0, slots := 0, locals := 0 }) M [.int a0, .int a1, .int a2] (kI K) kN := by
  refine gm_of hl (ret := (some Jvm.ClassFile.FieldType.boolean)) rfl (Nat.le_of_ble_eq_true rfl) (fun X h hq => ?_)
  have h : hX l G X cX1_isIn 3 "GlacierMail" 0 0 := h
  have hf := hf
  show V l G X 0 0 M 0 [(0, .int a0), (1, .int a1), (2, .int a2)] []
  unfold f_X1_isIn at hf
  refine r_iload_n h 0 dX1_isIn_0 rfl rfl ?_
  refine r_iload_n h 1 dX1_isIn_1 rfl rfl ?_
  refine r_icmp_lt (tgt := 14) h dX1_isIn_2 (by decide) (fun c1 => ?_) (fun c1 => ?_)
  · have hf := ite_t c1 hf
    refine r_iconst (v := 0) h dX1_isIn_14 (by decide) ?_
    exact r_zreturn h hq dX1_isIn_15 (by decide) ⟨_, rfl, hf⟩
  · have hf := ite_f c1 hf
    refine r_iload_n h 0 dX1_isIn_5 rfl rfl ?_
    refine r_iload_n h 2 dX1_isIn_6 rfl rfl ?_
    refine r_icmp_gt (tgt := 14) h dX1_isIn_7 (by decide) (fun c2 => ?_) (fun c2 => ?_)
    · have hf := ite_t c2 hf
      refine r_iconst (v := 0) h dX1_isIn_14 (by decide) ?_
      exact r_zreturn h hq dX1_isIn_15 (by decide) ⟨_, rfl, hf⟩
    · have hf := ite_f c2 hf
      refine r_iconst (v := 1) h dX1_isIn_10 (by decide) ?_
      refine r_goto (tgt := 15) h dX1_isIn_11 (by decide) ?_
      exact r_zreturn h hq dX1_isIn_15 (by decide) ⟨_, rfl, hf⟩
theorem c634 {l : Launch} {G : gG} {X : gX} {cc : ByteArray} {nL F L bc bs pc : Nat} {M : gM} {lv : List (Nat × Value)} {rest : List Value} {a0 : Int32} {a1 : Int32} {a2 : Int32} {K : Int32 → gM → Prop} (hl : l.stackTraces = false) (h : hX l G X cc nL "GlacierMail" F L) (d : decode cc pc = .ok (.invokestatic 79, 3)) (hf : f_X1_isIn a0 a1 a2 M K) (hst : (rest.map fun v => v.category).sum ≤ 8) (hF : 1 ≤ F) (hL : 22 ≤ L) (kk : ∀ x M1, K x M1 → V l G X bc bs M1 (pc + 3) lv (.int x :: rest)) : V l G X bc bs M pc lv (.int a2 :: .int a1 :: .int a0 :: rest) := r_callS (n := 3) (As := [.int a0, .int a1, .int a2]) h (m_X1_isIn hl hf) ⟨by decide, by decide, by decide +kernel⟩ d q634 q635 q135 q636 rfl rfl hst hF hL (Nat.zero_le _) (Nat.zero_le _) (kI_go kk) kN_go
def f_X1_must (a0 : Int32) (M : gM) (K : gM → Prop) (KX : Addr → String → gM → Prop) : Prop :=
  if a0 = 0 then ∀ n2, sz M ≤ n2 → KX (sz M) "java/lang/IllegalArgumentException" (sZ M n2) else K M
set_option maxHeartbeats 4000000 in
theorem m_X1_must {l : Launch} (hl : l.stackTraces = false) {G : gG} {a0 : Int32} {M : gM} {K : gM → Prop} {KX : Addr → String → gM → Prop} (hf : f_X1_must a0 M K KX) : gMet l G yX1_must (ws_ yX1_must cX1_must 1 none) ({ frames := 12, cells := 1, slots := 6, locals := 200 }) M [.int a0] (kV K) KX := by
  refine gm_of hl (ret := none) rfl (Nat.le_of_ble_eq_true rfl) (fun X h hq => ?_)
  have h : hX l G X cX1_must 1 "GlacierMail" 12 200 := h
  have hf := hf
  show V l G X 1 6 M 0 [(0, .int a0)] []
  unfold f_X1_must at hf
  refine r_iload_n h 0 dX1_must_0 rfl rfl ?_
  refine r_if_ne (tgt := 12) h dX1_must_1 (by decide) (fun c1 => ?_) (fun c1 => ?_)
  · have hf := ite_f c1 hf
    exact r_return h hq dX1_must_12 ⟨rfl, hf⟩
  · have hf := ite_t c1 hf
    exact x966 h hq dX1_must_4 dX1_must_7 dX1_must_8 dX1_must_11 (by decide) (by decide) (by decide) (by decide) (Nat.le_of_ble_eq_true rfl) (fun n2 hn => hf n2 hn)
theorem c1147 {l : Launch} {G : gG} {X : gX} {cc : ByteArray} {nL F L bc bs pc : Nat} {M : gM} {lv : List (Nat × Value)} {rest : List Value} {a0 : Int32} {K : gM → Prop} {KX : Addr → String → gM → Prop} (hl : l.stackTraces = false) (h : hX l G X cc nL "GlacierMail" F L) (d : decode cc pc = .ok (.invokestatic 83, 3)) (hf : f_X1_must a0 M K KX) (hst : (rest.map fun v => v.category).sum ≤ 8) (hF : 13 ≤ F) (hL : 220 ≤ L) (h1 : 1 ≤ bc) (h2 : 6 ≤ bs) (kk : ∀ M1, K M1 → V l G X (bc - 1) (bs - 6) M1 (pc + 3) lv rest) (kx : ∀ q E M1, KX q E M1 → VX l G X (bc - 1) (bs - 6) M1 pc lv q E) : V l G X bc bs M pc lv (.int a0 :: rest) := r_callS (n := 1) (As := [.int a0]) h (m_X1_must hl hf) ⟨by decide, by decide, by decide +kernel⟩ d q1147 q1148 q135 q1149 rfl rfl hst hF hL h1 h2 (kV_go kk) kx
def f_X1_isYear (a0 : Int32) (M : gM) (K : gM → Prop) (KX : Addr → String → gM → Prop) : Prop :=
  f_X1_isIn a0 0 299 M (fun x2 M1 => f_X1_must x2 M1 (fun M3 => K M3) KX)
set_option maxHeartbeats 4000000 in
theorem m_X1_isYear {l : Launch} (hl : l.stackTraces = false) {G : gG} {a0 : Int32} {M : gM} {K : gM → Prop} {KX : Addr → String → gM → Prop} (hf : f_X1_isYear a0 M K KX) : gMet l G yX1_isYear (ws_ yX1_isYear cX1_isYear 1 none) ({ frames := 13, cells := 1, slots := 6, locals := 220 }) M [.int a0] (kV K) KX := by
  refine gm_of hl (ret := none) rfl (Nat.le_of_ble_eq_true rfl) (fun X h hq => ?_)
  have h : hX l G X cX1_isYear 1 "GlacierMail" 13 220 := h
  have hf := hf
  show V l G X 1 6 M 0 [(0, .int a0)] []
  unfold f_X1_isYear at hf
  refine r_iload_n h 0 dX1_isYear_0 rfl rfl ?_
  refine r_iconst (v := 0) h dX1_isYear_1 (by decide) ?_
  refine r_sipush (v := 299) h dX1_isYear_2 (by decide) ?_
  refine c634 hl h dX1_isYear_5 hf (Nat.le_of_ble_eq_true rfl) (by decide) (by decide) (fun x2 M1 hf => ?_)
  refine c1147 hl h dX1_isYear_8 hf (Nat.le_of_ble_eq_true rfl) (by decide) (by decide) (by decide) (by decide) (fun M3 hf => ?_) (fun q9 E9 M9 hf => r_out h hq hf)
  exact r_return h hq dX1_isYear_11 ⟨rfl, hf⟩
theorem c1144 {l : Launch} {G : gG} {X : gX} {cc : ByteArray} {nL F L bc bs pc : Nat} {M : gM} {lv : List (Nat × Value)} {rest : List Value} {a0 : Int32} {K : gM → Prop} {KX : Addr → String → gM → Prop} (hl : l.stackTraces = false) (h : hX l G X cc nL "GlacierMail" F L) (d : decode cc pc = .ok (.invokestatic 174, 3)) (hf : f_X1_isYear a0 M K KX) (hst : (rest.map fun v => v.category).sum ≤ 8) (hF : 14 ≤ F) (hL : 240 ≤ L) (h1 : 1 ≤ bc) (h2 : 6 ≤ bs) (kk : ∀ M1, K M1 → V l G X (bc - 1) (bs - 6) M1 (pc + 3) lv rest) (kx : ∀ q E M1, KX q E M1 → VX l G X (bc - 1) (bs - 6) M1 pc lv q E) : V l G X bc bs M pc lv (.int a0 :: rest) := r_callS (n := 1) (As := [.int a0]) h (m_X1_isYear hl hf) ⟨by decide, by decide, by decide +kernel⟩ d q1144 q1145 q135 q1146 rfl rfl hst hF hL h1 h2 (kV_go kk) kx
def f_X1_heat (a0 : Nat) (a1 : Int32) (M : gM) (K : Int32 → gM → Prop) (KX : Addr → String → gM → Prop) : Prop :=
  f_X1_isYear a1 M (fun M1 => kd M1 a0 = some (.inl 1) ∧ ∃ b3, rv M1 a0 1 = some b3 ∧ kd M1 b3 = some (.inl 3) ∧ ∃ b6, rv M1 b3 7 = some b6 ∧ inA M1 b6 0 a1 ∧ K (iv M1 b6 (ix a1)) M1) KX
set_option maxHeartbeats 4000000 in
theorem m_X1_heat {l : Launch} (hl : l.stackTraces = false) {G : gG} {a0 : Nat} {a1 : Int32} {M : gM} {K : Int32 → gM → Prop} {KX : Addr → String → gM → Prop} (hf : f_X1_heat a0 a1 M K KX) : gMet l G yX1_heat (ws_ yX1_heat cX1_heat 2 (some Jvm.ClassFile.FieldType.int)) ({ frames := 14, cells := 1, slots := 6, locals := 240 }) M [.ref a0, .int a1] (kI K) KX := by
  refine gm_of hl (ret := (some Jvm.ClassFile.FieldType.int)) rfl (Nat.le_of_ble_eq_true rfl) (fun X h hq => ?_)
  have h : hX l G X cX1_heat 2 "GlacierMail" 14 240 := h
  have hf := hf
  show V l G X 1 6 M 0 [(0, .ref a0), (1, .int a1)] []
  unfold f_X1_heat at hf
  refine r_iload_n h 1 dX1_heat_0 rfl rfl ?_
  refine c1144 hl h dX1_heat_1 hf (Nat.le_of_ble_eq_true rfl) (by decide) (by decide) (by decide) (by decide) (fun M1 hf => ?_) (fun q9 E9 M9 hf => r_out h hq hf)
  refine r_aload_n h 0 dX1_heat_4 rfl rfl ?_
  obtain ⟨k2, hf⟩ := hf
  obtain ⟨b3, e4, hf⟩ := hf
  refine g573 h dX1_heat_5 k2 e4 ?_
  obtain ⟨k5, hf⟩ := hf
  obtain ⟨b6, e7, hf⟩ := hf
  refine g339 h dX1_heat_8 k5 e7 ?_
  refine r_iload_n h 1 dX1_heat_11 rfl rfl ?_
  obtain ⟨j8, hf⟩ := hf
  refine r_iaload h dX1_heat_12 j8 ?_
  exact r_ireturn h hq dX1_heat_13 ⟨_, rfl, hf⟩
theorem c1140 {l : Launch} {G : gG} {X : gX} {cc : ByteArray} {nL F L bc bs pc : Nat} {M : gM} {lv : List (Nat × Value)} {rest : List Value} {a0 : Nat} {a1 : Int32} {K : Int32 → gM → Prop} {KX : Addr → String → gM → Prop} (hl : l.stackTraces = false) (h : hX l G X cc nL "GlacierMailLaw" F L) (d : decode cc pc = .ok (.invokevirtual 20, 3)) (hk : kd M a0 = some (.inl 1)) (hf : f_X1_heat a0 a1 M K KX) (hst : (rest.map fun v => v.category).sum ≤ 8) (hF : 15 ≤ F) (hL : 261 ≤ L) (h1 : 1 ≤ bc) (h2 : 6 ≤ bs) (kk : ∀ x M1, K x M1 → V l G X (bc - 1) (bs - 6) M1 (pc + 3) lv (.int x :: rest)) (kx : ∀ q E M1, KX q E M1 → VX l G X (bc - 1) (bs - 6) M1 pc lv q E) : V l G X bc bs M pc lv (.int a1 :: .ref a0 :: rest) := r_callV (n := 1) (As := [.int a1]) h (m_X1_heat hl hf) 1 rfl hk rfl ⟨by decide, by decide, by decide +kernel⟩ d q1140 q1141 q1142 q135 q1143 rfl rfl hst hF hL h1 h2 (kI_go kk) kx
def f_X0_heat (a0 : Nat) (a1 : Int32) (a2 : Nat) (M : gM) (K : Int32 → gM → Prop) : Prop :=
  kd M a0 = some (.inl 1) ∧ f_X1_heat a0 a1 M (fun x3 M2 => inA M2 a2 2 0 ∧ ∀ M5, M5 = sJ M2 a2 (ix 0) (x3.toInt64) → K 0 M5) (fun q9 E9 M9 => (E9 = "java/lang/IllegalArgumentException" ∧ K 1 M9))
set_option maxHeartbeats 4000000 in
theorem m_X0_heat {l : Launch} (hl : l.stackTraces = false) {G : gG} {a0 : Nat} {a1 : Int32} {a2 : Nat} {M : gM} {K : Int32 → gM → Prop} (hf : f_X0_heat a0 a1 a2 M K) : gMet l G yX0_heat (wsW_ yX0_heat cX0_heat 4 (some Jvm.ClassFile.FieldType.int) [(0, 9, 12, 13)]) ({ frames := 15, cells := 1, slots := 6, locals := 261 }) M [.ref a0, .int a1, .ref a2] (kI K) kN := by
  refine gm_ofH hl (ret := (some Jvm.ClassFile.FieldType.int)) rfl (Nat.le_of_ble_eq_true rfl) (fun X h hq => ?_)
  have h : hX l G X cX0_heat 4 "GlacierMailLaw" 15 261 := h
  have hf := hf
  show V l G X 1 6 M 0 [(0, .ref a0), (1, .int a1), (2, .ref a2)] []
  unfold f_X0_heat at hf
  refine r_aload_n h 2 dX0_heat_0 rfl rfl ?_
  refine r_iconst (v := 0) h dX0_heat_1 (by decide) ?_
  refine r_aload_n h 0 dX0_heat_2 rfl rfl ?_
  refine r_iload_n h 1 dX0_heat_3 rfl rfl ?_
  obtain ⟨k1, hf⟩ := hf
  refine c1140 hl h dX0_heat_4 k1 hf (Nat.le_of_ble_eq_true rfl) (by decide) (by decide) (by decide) (by decide) (fun x3 M2 hf => ?_) (fun q9 E9 M9 hf => ?_)
  · skip
    refine r_i2l h dX0_heat_7 ?_
    obtain ⟨j4, hf⟩ := hf
    refine r_lastore h dX0_heat_8 j4 ?_
    refine r_goW (fun M5 eM5 => ?_)
    have hf := hf M5 eM5
    refine r_goto (tgt := 15) h dX0_heat_9 (by decide) ?_
    refine r_iconst (v := 0) h dX0_heat_15 (by decide) ?_
    exact r_ireturn h hq dX0_heat_16 ⟨_, rfl, hf⟩
  · rcases hf with ⟨rfl, hf⟩
    · refine r_catch h hq 0 (E := "java/lang/IllegalArgumentException") (nm := "java/lang/IllegalArgumentException") rfl (fun z hz => nomatch hz) (by decide) (by decide) q822 (List.mem_of_getElem? (i := 5) rfl) ?_
      refine r_astore_n (lv' := [(3, .ref q9), (0, .ref a0), (1, .int a1), (2, .ref a2)]) h dX0_heat_12 rfl (by decide) rfl ?_
      refine r_iconst (v := 1) h dX0_heat_13 (by decide) ?_
      exact r_ireturn h hq dX0_heat_14 ⟨_, rfl, hf⟩
theorem c1137 {l : Launch} {G : gG} {X : gX} {cc : ByteArray} {nL F L bc bs pc : Nat} {M : gM} {lv : List (Nat × Value)} {rest : List Value} {a0 : Nat} {a1 : Int32} {a2 : Nat} {K : Int32 → gM → Prop} (hl : l.stackTraces = false) (h : hX l G X cc nL "GlacierMailLaw" F L) (d : decode cc pc = .ok (.invokestatic 165, 3)) (hf : f_X0_heat a0 a1 a2 M K) (hst : (rest.map fun v => v.category).sum ≤ 8) (hF : 16 ≤ F) (hL : 284 ≤ L) (h1 : 1 ≤ bc) (h2 : 6 ≤ bs) (kk : ∀ x M1, K x M1 → V l G X (bc - 1) (bs - 6) M1 (pc + 3) lv (.int x :: rest)) : V l G X bc bs M pc lv (.ref a2 :: .int a1 :: .ref a0 :: rest) := r_callSH (n := 3) (As := [.ref a0, .int a1, .ref a2]) h (m_X0_heat hl hf) ⟨by decide, by decide, by decide +kernel⟩ d q1137 q1138 q134 q1139 rfl rfl hst hF hL h1 h2 (kI_go kk) kN_go
def f_X1_mustBe (a0 : Int32) (M : gM) (K : gM → Prop) (KX : Addr → String → gM → Prop) : Prop :=
  if a0 = 0 then ∀ n2, sz M ≤ n2 → KX (sz M) "java/lang/IndexOutOfBoundsException" (sZ M n2) else K M
set_option maxHeartbeats 4000000 in
theorem m_X1_mustBe {l : Launch} (hl : l.stackTraces = false) {G : gG} {a0 : Int32} {M : gM} {K : gM → Prop} {KX : Addr → String → gM → Prop} (hf : f_X1_mustBe a0 M K KX) : gMet l G yX1_mustBe (ws_ yX1_mustBe cX1_mustBe 1 none) ({ frames := 12, cells := 1, slots := 6, locals := 200 }) M [.int a0] (kV K) KX := by
  refine gm_of hl (ret := none) rfl (Nat.le_of_ble_eq_true rfl) (fun X h hq => ?_)
  have h : hX l G X cX1_mustBe 1 "GlacierMail" 12 200 := h
  have hf := hf
  show V l G X 1 6 M 0 [(0, .int a0)] []
  unfold f_X1_mustBe at hf
  refine r_iload_n h 0 dX1_mustBe_0 rfl rfl ?_
  refine r_if_ne (tgt := 12) h dX1_mustBe_1 (by decide) (fun c1 => ?_) (fun c1 => ?_)
  · have hf := ite_f c1 hf
    exact r_return h hq dX1_mustBe_12 ⟨rfl, hf⟩
  · have hf := ite_t c1 hf
    exact x1196 h hq dX1_mustBe_4 dX1_mustBe_7 dX1_mustBe_8 dX1_mustBe_11 (by decide) (by decide) (by decide) (by decide) (Nat.le_of_ble_eq_true rfl) (fun n2 hn => hf n2 hn)
theorem c1193 {l : Launch} {G : gG} {X : gX} {cc : ByteArray} {nL F L bc bs pc : Nat} {M : gM} {lv : List (Nat × Value)} {rest : List Value} {a0 : Int32} {K : gM → Prop} {KX : Addr → String → gM → Prop} (hl : l.stackTraces = false) (h : hX l G X cc nL "GlacierMail" F L) (d : decode cc pc = .ok (.invokestatic 90, 3)) (hf : f_X1_mustBe a0 M K KX) (hst : (rest.map fun v => v.category).sum ≤ 8) (hF : 13 ≤ F) (hL : 220 ≤ L) (h1 : 1 ≤ bc) (h2 : 6 ≤ bs) (kk : ∀ M1, K M1 → V l G X (bc - 1) (bs - 6) M1 (pc + 3) lv rest) (kx : ∀ q E M1, KX q E M1 → VX l G X (bc - 1) (bs - 6) M1 pc lv q E) : V l G X bc bs M pc lv (.int a0 :: rest) := r_callS (n := 1) (As := [.int a0]) h (m_X1_mustBe hl hf) ⟨by decide, by decide, by decide +kernel⟩ d q1193 q1194 q135 q1195 rfl rfl hst hF hL h1 h2 (kV_go kk) kx
def f_X1_isLane (a0 : Nat) (a1 : Int32) (M : gM) (K : gM → Prop) (KX : Addr → String → gM → Prop) : Prop :=
  kd M a0 = some (.inl 1) ∧ ∃ b2, rv M a0 1 = some b2 ∧ kd M b2 = some (.inl 3) ∧ f_X1_isIn a1 0 ((iv M b2 9) - 1) M (fun x6 M5 => f_X1_mustBe x6 M5 (fun M7 => K M7) KX)
set_option maxHeartbeats 4000000 in
theorem m_X1_isLane {l : Launch} (hl : l.stackTraces = false) {G : gG} {a0 : Nat} {a1 : Int32} {M : gM} {K : gM → Prop} {KX : Addr → String → gM → Prop} (hf : f_X1_isLane a0 a1 M K KX) : gMet l G yX1_isLane (ws_ yX1_isLane cX1_isLane 2 none) ({ frames := 13, cells := 1, slots := 6, locals := 220 }) M [.ref a0, .int a1] (kV K) KX := by
  refine gm_of hl (ret := none) rfl (Nat.le_of_ble_eq_true rfl) (fun X h hq => ?_)
  have h : hX l G X cX1_isLane 2 "GlacierMail" 13 220 := h
  have hf := hf
  show V l G X 1 6 M 0 [(0, .ref a0), (1, .int a1)] []
  unfold f_X1_isLane at hf
  refine r_iload_n h 1 dX1_isLane_0 rfl rfl ?_
  refine r_iconst (v := 0) h dX1_isLane_1 (by decide) ?_
  refine r_aload_n h 0 dX1_isLane_2 rfl rfl ?_
  obtain ⟨k1, hf⟩ := hf
  obtain ⟨b2, e3, hf⟩ := hf
  refine g573 h dX1_isLane_3 k1 e3 ?_
  obtain ⟨k4, hf⟩ := hf
  refine g342 h dX1_isLane_6 k4 ?_
  refine r_iconst (v := 1) h dX1_isLane_9 (by decide) ?_
  refine r_isub h dX1_isLane_10 ?_
  refine c634 hl h dX1_isLane_11 hf (Nat.le_of_ble_eq_true rfl) (by decide) (by decide) (fun x6 M5 hf => ?_)
  refine c1193 hl h dX1_isLane_14 hf (Nat.le_of_ble_eq_true rfl) (by decide) (by decide) (by decide) (by decide) (fun M7 hf => ?_) (fun q9 E9 M9 hf => r_out h hq hf)
  exact r_return h hq dX1_isLane_17 ⟨rfl, hf⟩
theorem c1189 {l : Launch} {G : gG} {X : gX} {cc : ByteArray} {nL F L bc bs pc : Nat} {M : gM} {lv : List (Nat × Value)} {rest : List Value} {a0 : Nat} {a1 : Int32} {K : gM → Prop} {KX : Addr → String → gM → Prop} (hl : l.stackTraces = false) (h : hX l G X cc nL "GlacierMail" F L) (d : decode cc pc = .ok (.invokevirtual 180, 3)) (hk : kd M a0 = some (.inl 1)) (hf : f_X1_isLane a0 a1 M K KX) (hst : (rest.map fun v => v.category).sum ≤ 8) (hF : 14 ≤ F) (hL : 241 ≤ L) (h1 : 1 ≤ bc) (h2 : 6 ≤ bs) (kk : ∀ M1, K M1 → V l G X (bc - 1) (bs - 6) M1 (pc + 3) lv rest) (kx : ∀ q E M1, KX q E M1 → VX l G X (bc - 1) (bs - 6) M1 pc lv q E) : V l G X bc bs M pc lv (.int a1 :: .ref a0 :: rest) := r_callV (n := 1) (As := [.int a1]) h (m_X1_isLane hl hf) 1 rfl hk rfl ⟨by decide, by decide, by decide +kernel⟩ d q1189 q1191 qs30 q135 q1192 rfl rfl hst hF hL h1 h2 (kV_go kk) kx
def f_X1_isRow (a0 : Nat) (a1 : Int32) (M : gM) (K : gM → Prop) (KX : Addr → String → gM → Prop) : Prop :=
  kd M a0 = some (.inl 1) ∧ ∃ b2, rv M a0 1 = some b2 ∧ kd M b2 = some (.inl 3) ∧ f_X1_isIn a1 0 ((iv M b2 10) - 1) M (fun x6 M5 => f_X1_mustBe x6 M5 (fun M7 => K M7) KX)
set_option maxHeartbeats 4000000 in
theorem m_X1_isRow {l : Launch} (hl : l.stackTraces = false) {G : gG} {a0 : Nat} {a1 : Int32} {M : gM} {K : gM → Prop} {KX : Addr → String → gM → Prop} (hf : f_X1_isRow a0 a1 M K KX) : gMet l G yX1_isRow (ws_ yX1_isRow cX1_isRow 2 none) ({ frames := 13, cells := 1, slots := 6, locals := 220 }) M [.ref a0, .int a1] (kV K) KX := by
  refine gm_of hl (ret := none) rfl (Nat.le_of_ble_eq_true rfl) (fun X h hq => ?_)
  have h : hX l G X cX1_isRow 2 "GlacierMail" 13 220 := h
  have hf := hf
  show V l G X 1 6 M 0 [(0, .ref a0), (1, .int a1)] []
  unfold f_X1_isRow at hf
  refine r_iload_n h 1 dX1_isRow_0 rfl rfl ?_
  refine r_iconst (v := 0) h dX1_isRow_1 (by decide) ?_
  refine r_aload_n h 0 dX1_isRow_2 rfl rfl ?_
  obtain ⟨k1, hf⟩ := hf
  obtain ⟨b2, e3, hf⟩ := hf
  refine g573 h dX1_isRow_3 k1 e3 ?_
  obtain ⟨k4, hf⟩ := hf
  refine g346 h dX1_isRow_6 k4 ?_
  refine r_iconst (v := 1) h dX1_isRow_9 (by decide) ?_
  refine r_isub h dX1_isRow_10 ?_
  refine c634 hl h dX1_isRow_11 hf (Nat.le_of_ble_eq_true rfl) (by decide) (by decide) (fun x6 M5 hf => ?_)
  refine c1193 hl h dX1_isRow_14 hf (Nat.le_of_ble_eq_true rfl) (by decide) (by decide) (by decide) (by decide) (fun M7 hf => ?_) (fun q9 E9 M9 hf => r_out h hq hf)
  exact r_return h hq dX1_isRow_17 ⟨rfl, hf⟩
theorem c1211 {l : Launch} {G : gG} {X : gX} {cc : ByteArray} {nL F L bc bs pc : Nat} {M : gM} {lv : List (Nat × Value)} {rest : List Value} {a0 : Nat} {a1 : Int32} {K : gM → Prop} {KX : Addr → String → gM → Prop} (hl : l.stackTraces = false) (h : hX l G X cc nL "GlacierMail" F L) (d : decode cc pc = .ok (.invokevirtual 183, 3)) (hk : kd M a0 = some (.inl 1)) (hf : f_X1_isRow a0 a1 M K KX) (hst : (rest.map fun v => v.category).sum ≤ 8) (hF : 14 ≤ F) (hL : 241 ≤ L) (h1 : 1 ≤ bc) (h2 : 6 ≤ bs) (kk : ∀ M1, K M1 → V l G X (bc - 1) (bs - 6) M1 (pc + 3) lv rest) (kx : ∀ q E M1, KX q E M1 → VX l G X (bc - 1) (bs - 6) M1 pc lv q E) : V l G X bc bs M pc lv (.int a1 :: .ref a0 :: rest) := r_callV (n := 1) (As := [.int a1]) h (m_X1_isRow hl hf) 1 rfl hk rfl ⟨by decide, by decide, by decide +kernel⟩ d q1211 q1213 qs31 q135 q1214 rfl rfl hst hF hL h1 h2 (kV_go kk) kx
def f_X3_speed (a0 : Nat) (a1 : Int32) (a2 : Int32) (M : gM) (K : Int32 → gM → Prop) : Prop :=
  ∀ P5 : Nat → Int32 → Int32 → Int32 → Int32 → gM → Prop,
  (∀ (v0 : Nat) (v1 : Int32) (v2 : Int32) (v3 : Int32) (v4 : Int32) (M : gM), (kd M v0 = some (.inl 3) ∧ if (iv M v0 11) ≤ v4 then K v3 M else ∃ b3, rv M v0 0 = some b3 ∧ inA M b3 5 v4 ∧ ∃ b6, rv M b3 (ix v4) = some b6 ∧ kd M b6 = some (.inl 4) ∧ if v2 < (iv M b6 1) then K v3 M else ∃ b10, rv M v0 0 = some b10 ∧ inA M b10 5 v4 ∧ ∃ b13, rv M b10 (ix v4) = some b13 ∧ kd M b13 = some (.inl 4) ∧ ∃ b16, rv M b13 0 = some b16 ∧ inA M b16 0 v1 ∧ P5 v0 v1 v2 (iv M b16 (ix v1)) (v4 + 1) M) → P5 v0 v1 v2 v3 v4 M) →
  P5 a0 a1 a2 0 0 M
set_option maxHeartbeats 4000000 in
theorem m_X3_speed {l : Launch} (hl : l.stackTraces = false) {G : gG} {a0 : Nat} {a1 : Int32} {a2 : Int32} {M : gM} {K : Int32 → gM → Prop} (hf : f_X3_speed a0 a1 a2 M K) : gMet l G yX3_speed (ws_ yX3_speed cX3_speed 5 (some Jvm.ClassFile.FieldType.int)) ({ frames := 0, cells := 0, slots := 0, locals := 0 }) M [.ref a0, .int a1, .int a2] (kI K) kN := by
  refine gm_of hl (ret := (some Jvm.ClassFile.FieldType.int)) rfl (Nat.le_of_ble_eq_true rfl) (fun X h hq => ?_)
  have h : hX l G X cX3_speed 5 "GlacierMail$State" 0 0 := h
  have hf := hf
  show V l G X 0 0 M 0 [(0, .ref a0), (1, .int a1), (2, .int a2)] []
  have hf := hf
    (fun v0 v1 v2 v3 v4 M => V l G X 0 0 M 5 [(0, .ref v0), (1, .int v1), (2, .int v2), (3, .int v3), (4, .int v4)] [])
    (by
      intro v0 v1 v2 v3 v4 M hf
      show V l G X 0 0 M 5 [(0, .ref v0), (1, .int v1), (2, .int v2), (3, .int v3), (4, .int v4)] []
      refine r_iload h 4 dX3_speed_5 rfl ?_
      refine r_aload_n h 0 dX3_speed_7 rfl rfl ?_
      obtain ⟨k1, hf⟩ := hf
      refine g348 h dX3_speed_8 k1 ?_
      refine r_icmp_ge (tgt := 47) h dX3_speed_11 (by decide) (fun c2 => ?_) (fun c2 => ?_)
      · have hf := ite_t c2 hf
        refine r_iload_n h 3 dX3_speed_47 rfl rfl ?_
        exact r_ireturn h hq dX3_speed_48 ⟨_, rfl, hf⟩
      · have hf := ite_f c2 hf
        refine r_aload_n h 0 dX3_speed_14 rfl rfl ?_
        obtain ⟨b3, e4, hf⟩ := hf
        refine g320 h dX3_speed_15 k1 e4 ?_
        refine r_iload h 4 dX3_speed_18 rfl ?_
        obtain ⟨j5, b6, e7, hf⟩ := hf
        refine r_aaload h 5 (by decide) (by decide) dX3_speed_20 j5 (v := .ref b6) (by rw [e7]; rfl) ?_
        obtain ⟨k8, hf⟩ := hf
        refine g222 h dX3_speed_21 k8 ?_
        refine r_iload_n h 2 dX3_speed_24 rfl rfl ?_
        refine r_icmp_gt (tgt := 47) h dX3_speed_25 (by decide) (fun c9 => ?_) (fun c9 => ?_)
        · have hf := ite_t c9 hf
          refine r_iload_n h 3 dX3_speed_47 rfl rfl ?_
          exact r_ireturn h hq dX3_speed_48 ⟨_, rfl, hf⟩
        · have hf := ite_f c9 hf
          refine r_aload_n h 0 dX3_speed_28 rfl rfl ?_
          obtain ⟨b10, e11, hf⟩ := hf
          refine g320 h dX3_speed_29 k1 e11 ?_
          refine r_iload h 4 dX3_speed_32 rfl ?_
          obtain ⟨j12, b13, e14, hf⟩ := hf
          refine r_aaload h 5 (by decide) (by decide) dX3_speed_34 j12 (v := .ref b13) (by rw [e14]; rfl) ?_
          obtain ⟨k15, hf⟩ := hf
          obtain ⟨b16, e17, hf⟩ := hf
          refine g218 h dX3_speed_35 k15 e17 ?_
          refine r_iload_n h 1 dX3_speed_38 rfl rfl ?_
          obtain ⟨j18, hf⟩ := hf
          refine r_iaload h dX3_speed_39 j18 ?_
          refine r_istore_n (lv' := [(3, .int (iv M b16 (ix v1))), (0, .ref v0), (1, .int v1), (2, .int v2), (4, .int v4)]) h dX3_speed_40 rfl (by decide) rfl ?_
          refine r_iinc (v := v4 + 1) (lv' := [(4, .int (v4 + 1)), (3, .int (iv M b16 (ix v1))), (0, .ref v0), (1, .int v1), (2, .int v2)]) h 4 dX3_speed_41 rfl rfl (by decide) rfl ?_
          refine r_goto (tgt := 5) h dX3_speed_44 (by decide) ?_
          exact V.sub [2, 3, 4, 1, 0] rfl hf)
  refine r_iconst (v := 0) h dX3_speed_0 (by decide) ?_
  refine r_istore_n (lv' := [(3, .int 0), (0, .ref a0), (1, .int a1), (2, .int a2)]) h dX3_speed_1 rfl (by decide) rfl ?_
  refine r_iconst (v := 0) h dX3_speed_2 (by decide) ?_
  refine r_istore (lv' := [(4, .int 0), (3, .int 0), (0, .ref a0), (1, .int a1), (2, .int a2)]) h dX3_speed_3 (by decide) rfl ?_
  exact V.sub [2, 3, 4, 1, 0] rfl hf
theorem c670 {l : Launch} {G : gG} {X : gX} {cc : ByteArray} {nL F L bc bs pc : Nat} {M : gM} {lv : List (Nat × Value)} {rest : List Value} {a0 : Nat} {a1 : Int32} {a2 : Int32} {K : Int32 → gM → Prop} (hl : l.stackTraces = false) (h : hX l G X cc nL "GlacierMail$State" F L) (d : decode cc pc = .ok (.invokevirtual 133, 3)) (hk : kd M a0 = some (.inl 3)) (hf : f_X3_speed a0 a1 a2 M K) (hst : (rest.map fun v => v.category).sum ≤ 8) (hF : 1 ≤ F) (hL : 24 ≤ L) (kk : ∀ x M1, K x M1 → V l G X bc bs M1 (pc + 3) lv (.int x :: rest)) : V l G X bc bs M pc lv (.int a2 :: .int a1 :: .ref a0 :: rest) := r_callV (n := 2) (As := [.int a1, .int a2]) h (m_X3_speed hl hf) 3 rfl hk rfl ⟨by decide, by decide, by decide +kernel⟩ d q670 q671 q672 q137 q673 rfl rfl hst hF hL (Nat.zero_le _) (Nat.zero_le _) (kI_go kk) kN_go
theorem c1215 {l : Launch} {G : gG} {X : gX} {cc : ByteArray} {nL F L bc bs pc : Nat} {M : gM} {lv : List (Nat × Value)} {rest : List Value} {a0 : Nat} {a1 : Int32} {a2 : Int32} {K : Int32 → gM → Prop} (hl : l.stackTraces = false) (h : hX l G X cc nL "GlacierMail" F L) (d : decode cc pc = .ok (.invokevirtual 186, 3)) (hk : kd M a0 = some (.inl 3)) (hf : f_X3_speed a0 a1 a2 M K) (hst : (rest.map fun v => v.category).sum ≤ 8) (hF : 1 ≤ F) (hL : 24 ≤ L) (kk : ∀ x M1, K x M1 → V l G X bc bs M1 (pc + 3) lv (.int x :: rest)) : V l G X bc bs M pc lv (.int a2 :: .int a1 :: .ref a0 :: rest) := r_callV (n := 2) (As := [.int a1, .int a2]) h (m_X3_speed hl hf) 3 rfl hk rfl ⟨by decide, by decide, by decide +kernel⟩ d q1215 q671 q672 q137 q673 rfl rfl hst hF hL (Nat.zero_le _) (Nat.zero_le _) (kI_go kk) kN_go
def f_X1_speed (a0 : Nat) (a1 : Int32) (a2 : Int32) (M : gM) (K : Int32 → gM → Prop) (KX : Addr → String → gM → Prop) : Prop :=
  kd M a0 = some (.inl 1) ∧ f_X1_isLane a0 a1 M (fun M2 => kd M2 a0 = some (.inl 1) ∧ f_X1_isRow a0 a2 M2 (fun M4 => kd M4 a0 = some (.inl 1) ∧ ∃ b6, rv M4 a0 1 = some b6 ∧ kd M4 b6 = some (.inl 3) ∧ f_X3_speed b6 a1 a2 M4 (fun x10 M9 => K x10 M9)) KX) KX
set_option maxHeartbeats 4000000 in
theorem m_X1_speed {l : Launch} (hl : l.stackTraces = false) {G : gG} {a0 : Nat} {a1 : Int32} {a2 : Int32} {M : gM} {K : Int32 → gM → Prop} {KX : Addr → String → gM → Prop} (hf : f_X1_speed a0 a1 a2 M K KX) : gMet l G yX1_speed (ws_ yX1_speed cX1_speed 3 (some Jvm.ClassFile.FieldType.int)) ({ frames := 14, cells := 2, slots := 12, locals := 241 }) M [.ref a0, .int a1, .int a2] (kI K) KX := by
  refine gm_of hl (ret := (some Jvm.ClassFile.FieldType.int)) rfl (Nat.le_of_ble_eq_true rfl) (fun X h hq => ?_)
  have h : hX l G X cX1_speed 3 "GlacierMail" 14 241 := h
  have hf := hf
  show V l G X 2 12 M 0 [(0, .ref a0), (1, .int a1), (2, .int a2)] []
  unfold f_X1_speed at hf
  refine r_aload_n h 0 dX1_speed_0 rfl rfl ?_
  refine r_iload_n h 1 dX1_speed_1 rfl rfl ?_
  obtain ⟨k1, hf⟩ := hf
  refine c1189 hl h dX1_speed_2 k1 hf (Nat.le_of_ble_eq_true rfl) (by decide) (by decide) (by decide) (by decide) (fun M2 hf => ?_) (fun q9 E9 M9 hf => r_out h hq hf)
  refine r_aload_n h 0 dX1_speed_5 rfl rfl ?_
  refine r_iload_n h 2 dX1_speed_6 rfl rfl ?_
  obtain ⟨k3, hf⟩ := hf
  refine c1211 hl h dX1_speed_7 k3 hf (Nat.le_of_ble_eq_true rfl) (by decide) (by decide) (by decide) (by decide) (fun M4 hf => ?_) (fun q9 E9 M9 hf => r_out h hq hf)
  refine r_aload_n h 0 dX1_speed_10 rfl rfl ?_
  obtain ⟨k5, hf⟩ := hf
  obtain ⟨b6, e7, hf⟩ := hf
  refine g573 h dX1_speed_11 k5 e7 ?_
  refine r_iload_n h 1 dX1_speed_14 rfl rfl ?_
  refine r_iload_n h 2 dX1_speed_15 rfl rfl ?_
  obtain ⟨k8, hf⟩ := hf
  refine c1215 hl h dX1_speed_16 k8 hf (Nat.le_of_ble_eq_true rfl) (by decide) (by decide) (fun x10 M9 hf => ?_)
  exact r_ireturn h hq dX1_speed_19 ⟨_, rfl, hf⟩
theorem c1185 {l : Launch} {G : gG} {X : gX} {cc : ByteArray} {nL F L bc bs pc : Nat} {M : gM} {lv : List (Nat × Value)} {rest : List Value} {a0 : Nat} {a1 : Int32} {a2 : Int32} {K : Int32 → gM → Prop} {KX : Addr → String → gM → Prop} (hl : l.stackTraces = false) (h : hX l G X cc nL "GlacierMailLaw" F L) (d : decode cc pc = .ok (.invokevirtual 24, 3)) (hk : kd M a0 = some (.inl 1)) (hf : f_X1_speed a0 a1 a2 M K KX) (hst : (rest.map fun v => v.category).sum ≤ 8) (hF : 15 ≤ F) (hL : 263 ≤ L) (h1 : 2 ≤ bc) (h2 : 12 ≤ bs) (kk : ∀ x M1, K x M1 → V l G X (bc - 2) (bs - 12) M1 (pc + 3) lv (.int x :: rest)) (kx : ∀ q E M1, KX q E M1 → VX l G X (bc - 2) (bs - 12) M1 pc lv q E) : V l G X bc bs M pc lv (.int a2 :: .int a1 :: .ref a0 :: rest) := r_callV (n := 2) (As := [.int a1, .int a2]) h (m_X1_speed hl hf) 1 rfl hk rfl ⟨by decide, by decide, by decide +kernel⟩ d q1185 q1186 q1187 q135 q1188 rfl rfl hst hF hL h1 h2 (kI_go kk) kx
def f_X0_speed (a0 : Nat) (a1 : Int32) (a2 : Int32) (a3 : Nat) (M : gM) (K : Int32 → gM → Prop) : Prop :=
  kd M a0 = some (.inl 1) ∧ f_X1_speed a0 a1 a2 M (fun x3 M2 => inA M2 a3 2 0 ∧ ∀ M5, M5 = sJ M2 a3 (ix 0) (x3.toInt64) → K 0 M5) (fun q9 E9 M9 => (E9 = "java/lang/IndexOutOfBoundsException" ∧ K 1 M9))
set_option maxHeartbeats 4000000 in
theorem m_X0_speed {l : Launch} (hl : l.stackTraces = false) {G : gG} {a0 : Nat} {a1 : Int32} {a2 : Int32} {a3 : Nat} {M : gM} {K : Int32 → gM → Prop} (hf : f_X0_speed a0 a1 a2 a3 M K) : gMet l G yX0_speed (wsW_ yX0_speed cX0_speed 5 (some Jvm.ClassFile.FieldType.int) [(0, 10, 13, 28)]) ({ frames := 15, cells := 2, slots := 12, locals := 263 }) M [.ref a0, .int a1, .int a2, .ref a3] (kI K) kN := by
  refine gm_ofH hl (ret := (some Jvm.ClassFile.FieldType.int)) rfl (Nat.le_of_ble_eq_true rfl) (fun X h hq => ?_)
  have h : hX l G X cX0_speed 5 "GlacierMailLaw" 15 263 := h
  have hf := hf
  show V l G X 2 12 M 0 [(0, .ref a0), (1, .int a1), (2, .int a2), (3, .ref a3)] []
  unfold f_X0_speed at hf
  refine r_aload_n h 3 dX0_speed_0 rfl rfl ?_
  refine r_iconst (v := 0) h dX0_speed_1 (by decide) ?_
  refine r_aload_n h 0 dX0_speed_2 rfl rfl ?_
  refine r_iload_n h 1 dX0_speed_3 rfl rfl ?_
  refine r_iload_n h 2 dX0_speed_4 rfl rfl ?_
  obtain ⟨k1, hf⟩ := hf
  refine c1185 hl h dX0_speed_5 k1 hf (Nat.le_of_ble_eq_true rfl) (by decide) (by decide) (by decide) (by decide) (fun x3 M2 hf => ?_) (fun q9 E9 M9 hf => ?_)
  · skip
    refine r_i2l h dX0_speed_8 ?_
    obtain ⟨j4, hf⟩ := hf
    refine r_lastore h dX0_speed_9 j4 ?_
    refine r_goW (fun M5 eM5 => ?_)
    have hf := hf M5 eM5
    refine r_goto (tgt := 17) h dX0_speed_10 (by decide) ?_
    refine r_iconst (v := 0) h dX0_speed_17 (by decide) ?_
    exact r_ireturn h hq dX0_speed_18 ⟨_, rfl, hf⟩
  · rcases hf with ⟨rfl, hf⟩
    · refine r_catch h hq 0 (E := "java/lang/IndexOutOfBoundsException") (nm := "java/lang/IndexOutOfBoundsException") rfl (fun z hz => nomatch hz) (by decide) (by decide) q1153 (List.mem_of_getElem? (i := 8) rfl) ?_
      refine r_astore (lv' := [(4, .ref q9), (0, .ref a0), (1, .int a1), (2, .int a2), (3, .ref a3)]) h dX0_speed_13 (by decide) rfl ?_
      refine r_iconst (v := 1) h dX0_speed_15 (by decide) ?_
      exact r_ireturn h hq dX0_speed_16 ⟨_, rfl, hf⟩
theorem c1150 {l : Launch} {G : gG} {X : gX} {cc : ByteArray} {nL F L bc bs pc : Nat} {M : gM} {lv : List (Nat × Value)} {rest : List Value} {a0 : Nat} {a1 : Int32} {a2 : Int32} {a3 : Nat} {K : Int32 → gM → Prop} (hl : l.stackTraces = false) (h : hX l G X cc nL "GlacierMailLaw" F L) (d : decode cc pc = .ok (.invokestatic 169, 3)) (hf : f_X0_speed a0 a1 a2 a3 M K) (hst : (rest.map fun v => v.category).sum ≤ 8) (hF : 16 ≤ F) (hL : 287 ≤ L) (h1 : 2 ≤ bc) (h2 : 12 ≤ bs) (kk : ∀ x M1, K x M1 → V l G X (bc - 2) (bs - 12) M1 (pc + 3) lv (.int x :: rest)) : V l G X bc bs M pc lv (.ref a3 :: .int a2 :: .int a1 :: .ref a0 :: rest) := r_callSH (n := 4) (As := [.ref a0, .int a1, .int a2, .ref a3]) h (m_X0_speed hl hf) ⟨by decide, by decide, by decide +kernel⟩ d q1150 q1151 q134 q1152 rfl rfl hst hF hL h1 h2 (kI_go kk) kN_go
def f_X3_tells (a0 : Nat) (a1 : Int32) (a2 : Int32) (a3 : Int32) (a4 : Int32) (M : gM) (K : gM → Prop) : Prop :=
  ∀ P89 : Nat → Int32 → Int32 → Int32 → Nat → gM → Prop,
  (∀ (v0 : Nat) (v1 : Int32) (s0 : Int32) (s1 : Int32) (s2 : Nat) (M : gM), (inA M s2 0 s1 ∧ ∀ M50, M50 = sI M s2 (ix s1) s0 → kd M50 v0 = some (.inl 3) ∧ ∃ b52, rv M50 v0 8 = some b52 ∧ if (iv M50 v0 20) ≤ v1 then inA M50 b52 0 9 ∧ ∀ M56, M56 = sI M50 b52 (ix 9) 0 → K M56 else inA M50 b52 0 9 ∧ ∀ M58, M58 = sI M50 b52 (ix 9) 1 → K M58) → P89 v0 v1 s0 s1 s2 M) →
  kd M a0 = some (.inl 3) ∧ ∃ b2, rv M a0 8 = some b2 ∧ inA M b2 0 0 ∧ ∀ M5, M5 = sI M b2 (ix 0) a1 → kd M5 a0 = some (.inl 3) ∧ ∃ b7, rv M5 a0 8 = some b7 ∧ inA M5 b7 0 1 ∧ ∀ M10, M10 = sI M5 b7 (ix 1) a2 → kd M10 a0 = some (.inl 3) ∧ ∃ b12, rv M10 a0 8 = some b12 ∧ inA M10 b12 0 2 ∧ ∀ M15, M15 = sI M10 b12 (ix 2) a3 → kd M15 a0 = some (.inl 3) ∧ ∃ b17, rv M15 a0 8 = some b17 ∧ ∃ b19, rv M15 a0 7 = some b19 ∧ inA M15 b19 0 a3 ∧ inA M15 b17 0 3 ∧ ∀ M23, M23 = sI M15 b17 (ix 3) (iv M15 b19 (ix a3)) → kd M23 a0 = some (.inl 3) ∧ ∃ b25, rv M23 a0 8 = some b25 ∧ inA M23 b25 0 4 ∧ ∀ M28, M28 = sI M23 b25 (ix 4) a4 → kd M28 a0 = some (.inl 3) ∧ ∃ b30, rv M28 a0 8 = some b30 ∧ inA M28 b30 0 5 ∧ ∀ M33, M33 = sI M28 b30 (ix 5) 0 → kd M33 a0 = some (.inl 3) ∧ ∃ b35, rv M33 a0 8 = some b35 ∧ inA M33 b35 0 6 ∧ ∀ M38, M38 = sI M33 b35 (ix 6) 0 → kd M38 a0 = some (.inl 3) ∧ ∃ b40, rv M38 a0 8 = some b40 ∧ inA M38 b40 0 7 ∧ ∀ M43, M43 = sI M38 b40 (ix 7) 0 → kd M43 a0 = some (.inl 3) ∧ ∃ b45, rv M43 a0 8 = some b45 ∧ if a1 = 0 then P89 a0 a1 1 8 b45 M43 else if a1 = ((iv M43 a0 9) - 1) then P89 a0 a1 1 8 b45 M43 else P89 a0 a1 0 8 b45 M43
set_option maxHeartbeats 4000000 in
theorem m_X3_tells {l : Launch} (hl : l.stackTraces = false) {G : gG} {a0 : Nat} {a1 : Int32} {a2 : Int32} {a3 : Int32} {a4 : Int32} {M : gM} {K : gM → Prop} (hf : f_X3_tells a0 a1 a2 a3 a4 M K) : gMet l G yX3_tells (ws_ yX3_tells cX3_tells 5 none) ({ frames := 0, cells := 0, slots := 0, locals := 0 }) M [.ref a0, .int a1, .int a2, .int a3, .int a4] (kV K) kN := by
  refine gm_of hl (ret := none) rfl (Nat.le_of_ble_eq_true rfl) (fun X h hq => ?_)
  have h : hX l G X cX3_tells 5 "GlacierMail$State" 0 0 := h
  have hf := hf
  show V l G X 0 0 M 0 [(0, .ref a0), (1, .int a1), (2, .int a2), (3, .int a3), (4, .int a4)] []
  have hf := hf
    (fun v0 v1 s0 s1 s2 M => V l G X 0 0 M 89 [(0, .ref v0), (1, .int v1)] [.int s0, .int s1, .ref s2])
    (by
      intro v0 v1 s0 s1 s2 M hf
      show V l G X 0 0 M 89 [(0, .ref v0), (1, .int v1)] [.int s0, .int s1, .ref s2]
      obtain ⟨j49, hf⟩ := hf
      refine r_iastore h dX3_tells_89 j49 ?_
      refine r_goW (fun M50 eM50 => ?_)
      have hf := hf M50 eM50
      refine r_aload_n h 0 dX3_tells_90 rfl rfl ?_
      obtain ⟨k51, hf⟩ := hf
      obtain ⟨b52, e53, hf⟩ := hf
      refine g340 h dX3_tells_91 k51 e53 ?_
      refine r_bipush (v := 9) h dX3_tells_94 (by decide) ?_
      refine r_iload_n h 1 dX3_tells_96 rfl rfl ?_
      refine r_aload_n h 0 dX3_tells_97 rfl rfl ?_
      refine g373 h dX3_tells_98 k51 ?_
      refine r_icmp_ge (tgt := 108) h dX3_tells_101 (by decide) (fun c54 => ?_) (fun c54 => ?_)
      · have hf := ite_t c54 hf
        refine r_iconst (v := 0) h dX3_tells_108 (by decide) ?_
        obtain ⟨j55, hf⟩ := hf
        refine r_iastore h dX3_tells_109 j55 ?_
        refine r_goW (fun M56 eM56 => ?_)
        have hf := hf M56 eM56
        exact r_return h hq dX3_tells_110 ⟨rfl, hf⟩
      · have hf := ite_f c54 hf
        refine r_iconst (v := 1) h dX3_tells_104 (by decide) ?_
        refine r_goto (tgt := 109) h dX3_tells_105 (by decide) ?_
        obtain ⟨j57, hf⟩ := hf
        refine r_iastore h dX3_tells_109 j57 ?_
        refine r_goW (fun M58 eM58 => ?_)
        have hf := hf M58 eM58
        exact r_return h hq dX3_tells_110 ⟨rfl, hf⟩)
  refine r_aload_n h 0 dX3_tells_0 rfl rfl ?_
  obtain ⟨k1, hf⟩ := hf
  obtain ⟨b2, e3, hf⟩ := hf
  refine g340 h dX3_tells_1 k1 e3 ?_
  refine r_iconst (v := 0) h dX3_tells_4 (by decide) ?_
  refine r_iload_n h 1 dX3_tells_5 rfl rfl ?_
  obtain ⟨j4, hf⟩ := hf
  refine r_iastore h dX3_tells_6 j4 ?_
  refine r_goW (fun M5 eM5 => ?_)
  have hf := hf M5 eM5
  refine r_aload_n h 0 dX3_tells_7 rfl rfl ?_
  obtain ⟨k6, hf⟩ := hf
  obtain ⟨b7, e8, hf⟩ := hf
  refine g340 h dX3_tells_8 k6 e8 ?_
  refine r_iconst (v := 1) h dX3_tells_11 (by decide) ?_
  refine r_iload_n h 2 dX3_tells_12 rfl rfl ?_
  obtain ⟨j9, hf⟩ := hf
  refine r_iastore h dX3_tells_13 j9 ?_
  refine r_goW (fun M10 eM10 => ?_)
  have hf := hf M10 eM10
  refine r_aload_n h 0 dX3_tells_14 rfl rfl ?_
  obtain ⟨k11, hf⟩ := hf
  obtain ⟨b12, e13, hf⟩ := hf
  refine g340 h dX3_tells_15 k11 e13 ?_
  refine r_iconst (v := 2) h dX3_tells_18 (by decide) ?_
  refine r_iload_n h 3 dX3_tells_19 rfl rfl ?_
  obtain ⟨j14, hf⟩ := hf
  refine r_iastore h dX3_tells_20 j14 ?_
  refine r_goW (fun M15 eM15 => ?_)
  have hf := hf M15 eM15
  refine r_aload_n h 0 dX3_tells_21 rfl rfl ?_
  obtain ⟨k16, hf⟩ := hf
  obtain ⟨b17, e18, hf⟩ := hf
  refine g340 h dX3_tells_22 k16 e18 ?_
  refine r_iconst (v := 3) h dX3_tells_25 (by decide) ?_
  refine r_aload_n h 0 dX3_tells_26 rfl rfl ?_
  obtain ⟨b19, e20, hf⟩ := hf
  refine g338 h dX3_tells_27 k16 e20 ?_
  refine r_iload_n h 3 dX3_tells_30 rfl rfl ?_
  obtain ⟨j21, hf⟩ := hf
  refine r_iaload h dX3_tells_31 j21 ?_
  obtain ⟨j22, hf⟩ := hf
  refine r_iastore h dX3_tells_32 j22 ?_
  refine r_goW (fun M23 eM23 => ?_)
  have hf := hf M23 eM23
  refine r_aload_n h 0 dX3_tells_33 rfl rfl ?_
  obtain ⟨k24, hf⟩ := hf
  obtain ⟨b25, e26, hf⟩ := hf
  refine g340 h dX3_tells_34 k24 e26 ?_
  refine r_iconst (v := 4) h dX3_tells_37 (by decide) ?_
  refine r_iload h 4 dX3_tells_38 rfl ?_
  obtain ⟨j27, hf⟩ := hf
  refine r_iastore h dX3_tells_40 j27 ?_
  refine r_goW (fun M28 eM28 => ?_)
  have hf := hf M28 eM28
  refine r_aload_n h 0 dX3_tells_41 rfl rfl ?_
  obtain ⟨k29, hf⟩ := hf
  obtain ⟨b30, e31, hf⟩ := hf
  refine g340 h dX3_tells_42 k29 e31 ?_
  refine r_iconst (v := 5) h dX3_tells_45 (by decide) ?_
  refine r_iconst (v := 0) h dX3_tells_46 (by decide) ?_
  obtain ⟨j32, hf⟩ := hf
  refine r_iastore h dX3_tells_47 j32 ?_
  refine r_goW (fun M33 eM33 => ?_)
  have hf := hf M33 eM33
  refine r_aload_n h 0 dX3_tells_48 rfl rfl ?_
  obtain ⟨k34, hf⟩ := hf
  obtain ⟨b35, e36, hf⟩ := hf
  refine g340 h dX3_tells_49 k34 e36 ?_
  refine r_bipush (v := 6) h dX3_tells_52 (by decide) ?_
  refine r_iconst (v := 0) h dX3_tells_54 (by decide) ?_
  obtain ⟨j37, hf⟩ := hf
  refine r_iastore h dX3_tells_55 j37 ?_
  refine r_goW (fun M38 eM38 => ?_)
  have hf := hf M38 eM38
  refine r_aload_n h 0 dX3_tells_56 rfl rfl ?_
  obtain ⟨k39, hf⟩ := hf
  obtain ⟨b40, e41, hf⟩ := hf
  refine g340 h dX3_tells_57 k39 e41 ?_
  refine r_bipush (v := 7) h dX3_tells_60 (by decide) ?_
  refine r_iconst (v := 0) h dX3_tells_62 (by decide) ?_
  obtain ⟨j42, hf⟩ := hf
  refine r_iastore h dX3_tells_63 j42 ?_
  refine r_goW (fun M43 eM43 => ?_)
  have hf := hf M43 eM43
  refine r_aload_n h 0 dX3_tells_64 rfl rfl ?_
  obtain ⟨k44, hf⟩ := hf
  obtain ⟨b45, e46, hf⟩ := hf
  refine g340 h dX3_tells_65 k44 e46 ?_
  refine r_bipush (v := 8) h dX3_tells_68 (by decide) ?_
  refine r_iload_n h 1 dX3_tells_70 rfl rfl ?_
  refine r_if_eq (tgt := 84) h dX3_tells_71 (by decide) (fun c47 => ?_) (fun c47 => ?_)
  · have hf := ite_t c47 hf
    refine r_iconst (v := 1) h dX3_tells_84 (by decide) ?_
    refine r_goto (tgt := 89) h dX3_tells_85 (by decide) ?_
    exact V.sub [0, 1] rfl hf
  · have hf := ite_f c47 hf
    refine r_iload_n h 1 dX3_tells_74 rfl rfl ?_
    refine r_aload_n h 0 dX3_tells_75 rfl rfl ?_
    refine g341 h dX3_tells_76 k44 ?_
    refine r_iconst (v := 1) h dX3_tells_79 (by decide) ?_
    refine r_isub h dX3_tells_80 ?_
    refine r_icmp_ne (tgt := 88) h dX3_tells_81 (by decide) (fun c48 => ?_) (fun c48 => ?_)
    · have hf := ite_f c48 hf
      refine r_iconst (v := 0) h dX3_tells_88 (by decide) ?_
      exact V.sub [0, 1] rfl hf
    · have hf := ite_t c48 hf
      refine r_iconst (v := 1) h dX3_tells_84 (by decide) ?_
      refine r_goto (tgt := 89) h dX3_tells_85 (by decide) ?_
      exact V.sub [0, 1] rfl hf
theorem c674 {l : Launch} {G : gG} {X : gX} {cc : ByteArray} {nL F L bc bs pc : Nat} {M : gM} {lv : List (Nat × Value)} {rest : List Value} {a0 : Nat} {a1 : Int32} {a2 : Int32} {a3 : Int32} {a4 : Int32} {K : gM → Prop} (hl : l.stackTraces = false) (h : hX l G X cc nL "GlacierMail$State" F L) (d : decode cc pc = .ok (.invokevirtual 137, 3)) (hk : kd M a0 = some (.inl 3)) (hf : f_X3_tells a0 a1 a2 a3 a4 M K) (hst : (rest.map fun v => v.category).sum ≤ 8) (hF : 1 ≤ F) (hL : 24 ≤ L) (kk : ∀ M1, K M1 → V l G X bc bs M1 (pc + 3) lv rest) : V l G X bc bs M pc lv (.int a4 :: .int a3 :: .int a2 :: .int a1 :: .ref a0 :: rest) := r_callV (n := 4) (As := [.int a1, .int a2, .int a3, .int a4]) h (m_X3_tells hl hf) 3 rfl hk rfl ⟨by decide, by decide, by decide +kernel⟩ d q674 q676 qs4 q137 q677 rfl rfl hst hF hL (Nat.zero_le _) (Nat.zero_le _) (kV_go kk) kN_go
def f_X3_flow (a0 : Nat) (a1 : Int32) (a2 : Int32) (a3 : Int32) (M : gM) (K : Int32 → gM → Prop) : Prop :=
  ∀ P20 : Nat → Int32 → Int32 → gM → Prop,
  (∀ (v0 : Nat) (v4 : Int32) (v5 : Int32) (M : gM), (kd M v0 = some (.inl 3) ∧ if (iv M v0 16) ≤ v5 then ∀ x8, x8 = (if v4 < 30 then v4 else 30) → ∀ x9, x9 = (if 0 < x8 then x8 else 0) → K x9 M else ∃ b10, rv M v0 5 = some b10 ∧ inA M b10 4 v5 ∧ ∃ b13, rv M b10 (ix v5) = some b13 ∧ ∃ b15, rv M v0 8 = some b15 ∧ f_is b13 b15 M (fun x18 M17 => if x18 = 0 then P20 v0 (v4 + 0) (v5 + 1) M17 else kd M17 v0 = some (.inl 3) ∧ ∃ b21, rv M17 v0 5 = some b21 ∧ inA M17 b21 4 v5 ∧ ∃ b24, rv M17 b21 (ix v5) = some b24 ∧ f_faster b24 M17 (fun x27 M26 => P20 v0 (v4 + x27) (v5 + 1) M26))) → P20 v0 v4 v5 M) →
  kd M a0 = some (.inl 3) ∧ f_X3_speed a0 a1 a2 M (fun x3 M2 => kd M2 a0 = some (.inl 3) ∧ f_X3_tells a0 a1 a2 a3 x3 M2 (fun M5 => P20 a0 x3 0 M5))
set_option maxHeartbeats 4000000 in
theorem m_X3_flow {l : Launch} (hl : l.stackTraces = false) {G : gG} {a0 : Nat} {a1 : Int32} {a2 : Int32} {a3 : Int32} {M : gM} {K : Int32 → gM → Prop} (hf : f_X3_flow a0 a1 a2 a3 M K) : gMet l G yX3_flow (ws_ yX3_flow cX3_flow 6 (some Jvm.ClassFile.FieldType.int)) ({ frames := 25, cells := 0, slots := 0, locals := 550 }) M [.ref a0, .int a1, .int a2, .int a3] (kI K) kN := by
  refine gm_of hl (ret := (some Jvm.ClassFile.FieldType.int)) rfl (Nat.le_of_ble_eq_true rfl) (fun X h hq => ?_)
  have h : hX l G X cX3_flow 6 "GlacierMail$State" 25 550 := h
  have hf := hf
  show V l G X 0 0 M 0 [(0, .ref a0), (1, .int a1), (2, .int a2), (3, .int a3)] []
  have hf := hf
    (fun v0 v4 v5 M => V l G X 0 0 M 20 [(0, .ref v0), (4, .int v4), (5, .int v5)] [])
    (by
      intro v0 v4 v5 M hf
      show V l G X 0 0 M 20 [(0, .ref v0), (4, .int v4), (5, .int v5)] []
      refine r_iload h 2 dX3_flow_20 rfl ?_
      refine r_aload_n h 0 dX3_flow_22 rfl rfl ?_
      obtain ⟨k6, hf⟩ := hf
      refine g363 h dX3_flow_23 k6 ?_
      refine r_icmp_ge (tgt := 71) h dX3_flow_26 (by decide) (fun c7 => ?_) (fun c7 => ?_)
      · have hf := ite_t c7 hf
        refine r_iconst (v := 0) h dX3_flow_71 (by decide) ?_
        refine r_bipush (v := 30) h dX3_flow_72 (by decide) ?_
        refine r_iload h 1 dX3_flow_74 rfl ?_
        refine r_mmin h q728 q729 q165 q730 dX3_flow_76 (by decide) (by decide) (Nat.le_of_ble_eq_true rfl) ?_
        refine r_nam (fun x8 ex8 => ?_)
        have hf := hf x8 ex8
        refine r_mmax h q731 q732 q165 q733 dX3_flow_79 (by decide) (by decide) (Nat.le_of_ble_eq_true rfl) ?_
        refine r_nam (fun x9 ex9 => ?_)
        have hf := hf x9 ex9
        exact r_ireturn h hq dX3_flow_82 ⟨_, rfl, hf⟩
      · have hf := ite_f c7 hf
        refine r_iload h 1 dX3_flow_29 rfl ?_
        refine r_aload_n h 0 dX3_flow_31 rfl rfl ?_
        obtain ⟨b10, e11, hf⟩ := hf
        refine g334 h dX3_flow_32 k6 e11 ?_
        refine r_iload h 2 dX3_flow_35 rfl ?_
        obtain ⟨j12, b13, e14, hf⟩ := hf
        refine r_aaload h 4 (by decide) (by decide) dX3_flow_37 j12 (v := .ref b13) (by rw [e14]; rfl) ?_
        refine r_aload_n h 0 dX3_flow_38 rfl rfl ?_
        obtain ⟨b15, e16, hf⟩ := hf
        refine g340 h dX3_flow_39 k6 e16 ?_
        refine c678 hl h dX3_flow_42 hf (Nat.le_of_ble_eq_true rfl) (by decide) (by decide) (fun x18 M17 hf => ?_)
        refine r_if_eq (tgt := 61) h dX3_flow_45 (by decide) (fun c19 => ?_) (fun c19 => ?_)
        · have hf := ite_t c19 hf
          refine r_iconst (v := 0) h dX3_flow_61 (by decide) ?_
          refine r_iadd h dX3_flow_62 ?_
          refine r_istore (lv' := [(4, .int (v4 + 0)), (0, .ref v0), (5, .int v5)]) h dX3_flow_63 (by decide) rfl ?_
          refine r_iinc (v := v5 + 1) (lv' := [(5, .int (v5 + 1)), (4, .int (v4 + 0)), (0, .ref v0)]) h 2 dX3_flow_65 rfl rfl (by decide) rfl ?_
          refine r_goto (tgt := 20) h dX3_flow_68 (by decide) ?_
          exact V.sub [2, 1, 0] rfl hf
        · have hf := ite_f c19 hf
          refine r_aload_n h 0 dX3_flow_48 rfl rfl ?_
          obtain ⟨k20, hf⟩ := hf
          obtain ⟨b21, e22, hf⟩ := hf
          refine g334 h dX3_flow_49 k20 e22 ?_
          refine r_iload h 2 dX3_flow_52 rfl ?_
          obtain ⟨j23, b24, e25, hf⟩ := hf
          refine r_aaload h 4 (by decide) (by decide) dX3_flow_54 j23 (v := .ref b24) (by rw [e25]; rfl) ?_
          refine c720 hl h dX3_flow_55 hf (Nat.le_of_ble_eq_true rfl) (by decide) (by decide) (fun x27 M26 hf => ?_)
          refine r_goto (tgt := 62) h dX3_flow_58 (by decide) ?_
          refine r_iadd h dX3_flow_62 ?_
          refine r_istore (lv' := [(4, .int (v4 + x27)), (0, .ref v0), (5, .int v5)]) h dX3_flow_63 (by decide) rfl ?_
          refine r_iinc (v := v5 + 1) (lv' := [(5, .int (v5 + 1)), (4, .int (v4 + x27)), (0, .ref v0)]) h 2 dX3_flow_65 rfl rfl (by decide) rfl ?_
          refine r_goto (tgt := 20) h dX3_flow_68 (by decide) ?_
          exact V.sub [2, 1, 0] rfl hf)
  refine r_aload_n h 0 dX3_flow_0 rfl rfl ?_
  refine r_iload_n h 1 dX3_flow_1 rfl rfl ?_
  refine r_iload_n h 2 dX3_flow_2 rfl rfl ?_
  obtain ⟨k1, hf⟩ := hf
  refine c670 hl h dX3_flow_3 k1 hf (Nat.le_of_ble_eq_true rfl) (by decide) (by decide) (fun x3 M2 hf => ?_)
  refine r_istore (lv' := [(4, .int x3), (0, .ref a0), (1, .int a1), (2, .int a2), (3, .int a3)]) h dX3_flow_6 (by decide) rfl ?_
  refine r_aload_n h 1 dX3_flow_8 rfl rfl ?_
  refine r_iload_n h 2 dX3_flow_9 rfl rfl ?_
  refine r_iload_n h 3 dX3_flow_10 rfl rfl ?_
  refine r_iload_n h 4 dX3_flow_11 rfl rfl ?_
  refine r_iload h 0 dX3_flow_12 rfl ?_
  obtain ⟨k4, hf⟩ := hf
  refine c674 hl h dX3_flow_14 k4 hf (Nat.le_of_ble_eq_true rfl) (by decide) (by decide) (fun M5 hf => ?_)
  refine r_iconst (v := 0) h dX3_flow_17 (by decide) ?_
  refine r_istore (lv' := [(5, .int 0), (4, .int x3), (0, .ref a0), (1, .int a1), (2, .int a2), (3, .int a3)]) h dX3_flow_18 (by decide) rfl ?_
  exact V.sub [2, 1, 0] rfl hf
theorem c666 {l : Launch} {G : gG} {X : gX} {cc : ByteArray} {nL F L bc bs pc : Nat} {M : gM} {lv : List (Nat × Value)} {rest : List Value} {a0 : Nat} {a1 : Int32} {a2 : Int32} {a3 : Int32} {K : Int32 → gM → Prop} (hl : l.stackTraces = false) (h : hX l G X cc nL "GlacierMail" F L) (d : decode cc pc = .ok (.invokevirtual 110, 3)) (hk : kd M a0 = some (.inl 3)) (hf : f_X3_flow a0 a1 a2 a3 M K) (hst : (rest.map fun v => v.category).sum ≤ 8) (hF : 26 ≤ F) (hL : 575 ≤ L) (kk : ∀ x M1, K x M1 → V l G X bc bs M1 (pc + 3) lv (.int x :: rest)) : V l G X bc bs M pc lv (.int a3 :: .int a2 :: .int a1 :: .ref a0 :: rest) := r_callV (n := 3) (As := [.int a1, .int a2, .int a3]) h (m_X3_flow hl hf) 3 rfl hk rfl ⟨by decide, by decide, by decide +kernel⟩ d q666 q667 q668 q137 q669 rfl rfl hst hF hL (Nat.zero_le _) (Nat.zero_le _) (kI_go kk) kN_go
def f_X1_flow (a0 : Nat) (a1 : Int32) (a2 : Int32) (a3 : Int32) (M : gM) (K : Int32 → gM → Prop) (KX : Addr → String → gM → Prop) : Prop :=
  kd M a0 = some (.inl 1) ∧ f_X1_isLane a0 a1 M (fun M2 => kd M2 a0 = some (.inl 1) ∧ f_X1_isRow a0 a2 M2 (fun M4 => f_X1_isYear a3 M4 (fun M5 => kd M5 a0 = some (.inl 1) ∧ ∃ b7, rv M5 a0 1 = some b7 ∧ kd M5 b7 = some (.inl 3) ∧ f_X3_flow b7 a1 a2 a3 M5 (fun x11 M10 => K x11 M10)) KX) KX) KX
set_option maxHeartbeats 4000000 in
theorem m_X1_flow {l : Launch} (hl : l.stackTraces = false) {G : gG} {a0 : Nat} {a1 : Int32} {a2 : Int32} {a3 : Int32} {M : gM} {K : Int32 → gM → Prop} {KX : Addr → String → gM → Prop} (hf : f_X1_flow a0 a1 a2 a3 M K KX) : gMet l G yX1_flow (ws_ yX1_flow cX1_flow 4 (some Jvm.ClassFile.FieldType.int)) ({ frames := 26, cells := 3, slots := 18, locals := 575 }) M [.ref a0, .int a1, .int a2, .int a3] (kI K) KX := by
  refine gm_of hl (ret := (some Jvm.ClassFile.FieldType.int)) rfl (Nat.le_of_ble_eq_true rfl) (fun X h hq => ?_)
  have h : hX l G X cX1_flow 4 "GlacierMail" 26 575 := h
  have hf := hf
  show V l G X 3 18 M 0 [(0, .ref a0), (1, .int a1), (2, .int a2), (3, .int a3)] []
  unfold f_X1_flow at hf
  refine r_aload_n h 0 dX1_flow_0 rfl rfl ?_
  refine r_iload_n h 1 dX1_flow_1 rfl rfl ?_
  obtain ⟨k1, hf⟩ := hf
  refine c1189 hl h dX1_flow_2 k1 hf (Nat.le_of_ble_eq_true rfl) (by decide) (by decide) (by decide) (by decide) (fun M2 hf => ?_) (fun q9 E9 M9 hf => r_out h hq hf)
  refine r_aload_n h 0 dX1_flow_5 rfl rfl ?_
  refine r_iload_n h 2 dX1_flow_6 rfl rfl ?_
  obtain ⟨k3, hf⟩ := hf
  refine c1211 hl h dX1_flow_7 k3 hf (Nat.le_of_ble_eq_true rfl) (by decide) (by decide) (by decide) (by decide) (fun M4 hf => ?_) (fun q9 E9 M9 hf => r_out h hq hf)
  refine r_iload_n h 3 dX1_flow_10 rfl rfl ?_
  refine c1144 hl h dX1_flow_11 hf (Nat.le_of_ble_eq_true rfl) (by decide) (by decide) (by decide) (by decide) (fun M5 hf => ?_) (fun q9 E9 M9 hf => r_out h hq hf)
  refine r_aload_n h 0 dX1_flow_14 rfl rfl ?_
  obtain ⟨k6, hf⟩ := hf
  obtain ⟨b7, e8, hf⟩ := hf
  refine g573 h dX1_flow_15 k6 e8 ?_
  refine r_iload_n h 1 dX1_flow_18 rfl rfl ?_
  refine r_iload_n h 2 dX1_flow_19 rfl rfl ?_
  refine r_iload_n h 3 dX1_flow_20 rfl rfl ?_
  obtain ⟨k9, hf⟩ := hf
  refine c666 hl h dX1_flow_21 k9 hf (Nat.le_of_ble_eq_true rfl) (by decide) (by decide) (fun x11 M10 hf => ?_)
  exact r_ireturn h hq dX1_flow_24 ⟨_, rfl, hf⟩
theorem c1219 {l : Launch} {G : gG} {X : gX} {cc : ByteArray} {nL F L bc bs pc : Nat} {M : gM} {lv : List (Nat × Value)} {rest : List Value} {a0 : Nat} {a1 : Int32} {a2 : Int32} {a3 : Int32} {K : Int32 → gM → Prop} {KX : Addr → String → gM → Prop} (hl : l.stackTraces = false) (h : hX l G X cc nL "GlacierMailLaw" F L) (d : decode cc pc = .ok (.invokevirtual 30, 3)) (hk : kd M a0 = some (.inl 1)) (hf : f_X1_flow a0 a1 a2 a3 M K KX) (hst : (rest.map fun v => v.category).sum ≤ 8) (hF : 27 ≤ F) (hL : 598 ≤ L) (h1 : 3 ≤ bc) (h2 : 18 ≤ bs) (kk : ∀ x M1, K x M1 → V l G X (bc - 3) (bs - 18) M1 (pc + 3) lv (.int x :: rest)) (kx : ∀ q E M1, KX q E M1 → VX l G X (bc - 3) (bs - 18) M1 pc lv q E) : V l G X bc bs M pc lv (.int a3 :: .int a2 :: .int a1 :: .ref a0 :: rest) := r_callV (n := 3) (As := [.int a1, .int a2, .int a3]) h (m_X1_flow hl hf) 1 rfl hk rfl ⟨by decide, by decide, by decide +kernel⟩ d q1219 q1220 q1221 q135 q1222 rfl rfl hst hF hL h1 h2 (kI_go kk) kx
def f_X0_flow (a0 : Nat) (a1 : Int32) (a2 : Int32) (a3 : Int32) (a4 : Nat) (M : gM) (K : Int32 → gM → Prop) : Prop :=
  kd M a0 = some (.inl 1) ∧ f_X1_flow a0 a1 a2 a3 M (fun x3 M2 => inA M2 a4 2 0 ∧ ∀ M5, M5 = sJ M2 a4 (ix 0) (x3.toInt64) → K 0 M5) (fun q9 E9 M9 => (E9 = "java/lang/IndexOutOfBoundsException" ∧ K 1 M9) ∨ (E9 = "java/lang/IllegalArgumentException" ∧ K 2 M9))
set_option maxHeartbeats 4000000 in
theorem m_X0_flow {l : Launch} (hl : l.stackTraces = false) {G : gG} {a0 : Nat} {a1 : Int32} {a2 : Int32} {a3 : Int32} {a4 : Nat} {M : gM} {K : Int32 → gM → Prop} (hf : f_X0_flow a0 a1 a2 a3 a4 M K) : gMet l G yX0_flow (wsW_ yX0_flow cX0_flow 6 (some Jvm.ClassFile.FieldType.int) [(0, 12, 15, 28), (0, 12, 19, 13)]) ({ frames := 27, cells := 3, slots := 18, locals := 598 }) M [.ref a0, .int a1, .int a2, .int a3, .ref a4] (kI K) kN := by
  refine gm_ofH hl (ret := (some Jvm.ClassFile.FieldType.int)) rfl (Nat.le_of_ble_eq_true rfl) (fun X h hq => ?_)
  have h : hX l G X cX0_flow 6 "GlacierMailLaw" 27 598 := h
  have hf := hf
  show V l G X 3 18 M 0 [(0, .ref a0), (1, .int a1), (2, .int a2), (3, .int a3), (4, .ref a4)] []
  unfold f_X0_flow at hf
  refine r_aload h 4 dX0_flow_0 rfl ?_
  refine r_iconst (v := 0) h dX0_flow_2 (by decide) ?_
  refine r_aload_n h 0 dX0_flow_3 rfl rfl ?_
  refine r_iload_n h 1 dX0_flow_4 rfl rfl ?_
  refine r_iload_n h 2 dX0_flow_5 rfl rfl ?_
  refine r_iload_n h 3 dX0_flow_6 rfl rfl ?_
  obtain ⟨k1, hf⟩ := hf
  refine c1219 hl h dX0_flow_7 k1 hf (Nat.le_of_ble_eq_true rfl) (by decide) (by decide) (by decide) (by decide) (fun x3 M2 hf => ?_) (fun q9 E9 M9 hf => ?_)
  · skip
    refine r_i2l h dX0_flow_10 ?_
    obtain ⟨j4, hf⟩ := hf
    refine r_lastore h dX0_flow_11 j4 ?_
    refine r_goW (fun M5 eM5 => ?_)
    have hf := hf M5 eM5
    refine r_goto (tgt := 23) h dX0_flow_12 (by decide) ?_
    refine r_iconst (v := 0) h dX0_flow_23 (by decide) ?_
    exact r_ireturn h hq dX0_flow_24 ⟨_, rfl, hf⟩
  · rcases hf with ⟨rfl, hf⟩ | ⟨rfl, hf⟩
    · refine r_catch h hq 0 (E := "java/lang/IndexOutOfBoundsException") (nm := "java/lang/IndexOutOfBoundsException") rfl (fun z hz => nomatch hz) (by decide) (by decide) q1153 (List.mem_of_getElem? (i := 8) rfl) ?_
      refine r_astore (lv' := [(5, .ref q9), (0, .ref a0), (1, .int a1), (2, .int a2), (3, .int a3), (4, .ref a4)]) h dX0_flow_15 (by decide) rfl ?_
      refine r_iconst (v := 1) h dX0_flow_17 (by decide) ?_
      exact r_ireturn h hq dX0_flow_18 ⟨_, rfl, hf⟩
    · refine r_catch h hq 1 (E := "java/lang/IllegalArgumentException") (nm := "java/lang/IllegalArgumentException") rfl (List.forall_mem_cons.mpr ⟨Or.inr ⟨by decide, "java/lang/IndexOutOfBoundsException", q1153, List.mem_of_getElem? (i := 16) rfl⟩, List.forall_mem_nil _⟩) (by decide) (by decide) q822 (List.mem_of_getElem? (i := 5) rfl) ?_
      refine r_astore (lv' := [(5, .ref q9), (0, .ref a0), (1, .int a1), (2, .int a2), (3, .int a3), (4, .ref a4)]) h dX0_flow_19 (by decide) rfl ?_
      refine r_iconst (v := 2) h dX0_flow_21 (by decide) ?_
      exact r_ireturn h hq dX0_flow_22 ⟨_, rfl, hf⟩
theorem c1216 {l : Launch} {G : gG} {X : gX} {cc : ByteArray} {nL F L bc bs pc : Nat} {M : gM} {lv : List (Nat × Value)} {rest : List Value} {a0 : Nat} {a1 : Int32} {a2 : Int32} {a3 : Int32} {a4 : Nat} {K : Int32 → gM → Prop} (hl : l.stackTraces = false) (h : hX l G X cc nL "GlacierMailLaw" F L) (d : decode cc pc = .ok (.invokestatic 173, 3)) (hf : f_X0_flow a0 a1 a2 a3 a4 M K) (hst : (rest.map fun v => v.category).sum ≤ 8) (hF : 28 ≤ F) (hL : 623 ≤ L) (h1 : 3 ≤ bc) (h2 : 18 ≤ bs) (kk : ∀ x M1, K x M1 → V l G X (bc - 3) (bs - 18) M1 (pc + 3) lv (.int x :: rest)) : V l G X bc bs M pc lv (.ref a4 :: .int a3 :: .int a2 :: .int a1 :: .ref a0 :: rest) := r_callSH (n := 5) (As := [.ref a0, .int a1, .int a2, .int a3, .ref a4]) h (m_X0_flow hl hf) ⟨by decide, by decide, by decide +kernel⟩ d q1216 q1217 q134 q1218 rfl rfl hst hF hL h1 h2 (kI_go kk) kN_go
def f_X1_personAt (a0 : Nat) (a1 : Int32) (M : gM) (K : Nat → gM → Prop) (KX : Addr → String → gM → Prop) : Prop :=
  kd M a0 = some (.inl 1) ∧ ∃ b2, rv M a0 1 = some b2 ∧ kd M b2 = some (.inl 3) ∧ f_X1_isIn a1 0 ((iv M b2 13) - 1) M (fun x6 M5 => f_X1_mustBe x6 M5 (fun M7 => kd M7 a0 = some (.inl 1) ∧ ∃ b9, rv M7 a0 1 = some b9 ∧ kd M7 b9 = some (.inl 3) ∧ ∃ b12, rv M7 b9 2 = some b12 ∧ inA M7 b12 7 a1 ∧ ∃ b15, rv M7 b12 (ix a1) = some b15 ∧ K b15 M7) KX)
set_option maxHeartbeats 4000000 in
theorem m_X1_personAt {l : Launch} (hl : l.stackTraces = false) {G : gG} {a0 : Nat} {a1 : Int32} {M : gM} {K : Nat → gM → Prop} {KX : Addr → String → gM → Prop} (hf : f_X1_personAt a0 a1 M K KX) : gMet l G yX1_personAt (ws_ yX1_personAt cX1_personAt 2 (some (Jvm.ClassFile.FieldType.object "GlacierMail$Person"))) ({ frames := 13, cells := 1, slots := 6, locals := 220 }) M [.ref a0, .int a1] (kA K) KX := by
  refine gm_of hl (ret := (some (Jvm.ClassFile.FieldType.object "GlacierMail$Person"))) rfl (Nat.le_of_ble_eq_true rfl) (fun X h hq => ?_)
  have h : hX l G X cX1_personAt 2 "GlacierMail" 13 220 := h
  have hf := hf
  show V l G X 1 6 M 0 [(0, .ref a0), (1, .int a1)] []
  unfold f_X1_personAt at hf
  refine r_iload_n h 1 dX1_personAt_0 rfl rfl ?_
  refine r_iconst (v := 0) h dX1_personAt_1 (by decide) ?_
  refine r_aload_n h 0 dX1_personAt_2 rfl rfl ?_
  obtain ⟨k1, hf⟩ := hf
  obtain ⟨b2, e3, hf⟩ := hf
  refine g573 h dX1_personAt_3 k1 e3 ?_
  obtain ⟨k4, hf⟩ := hf
  refine g355 h dX1_personAt_6 k4 ?_
  refine r_iconst (v := 1) h dX1_personAt_9 (by decide) ?_
  refine r_isub h dX1_personAt_10 ?_
  refine c634 hl h dX1_personAt_11 hf (Nat.le_of_ble_eq_true rfl) (by decide) (by decide) (fun x6 M5 hf => ?_)
  refine c1193 hl h dX1_personAt_14 hf (Nat.le_of_ble_eq_true rfl) (by decide) (by decide) (by decide) (by decide) (fun M7 hf => ?_) (fun q9 E9 M9 hf => r_out h hq hf)
  refine r_aload_n h 0 dX1_personAt_17 rfl rfl ?_
  obtain ⟨k8, hf⟩ := hf
  obtain ⟨b9, e10, hf⟩ := hf
  refine g573 h dX1_personAt_18 k8 e10 ?_
  obtain ⟨k11, hf⟩ := hf
  obtain ⟨b12, e13, hf⟩ := hf
  refine g326 h dX1_personAt_21 k11 e13 ?_
  refine r_iload_n h 1 dX1_personAt_24 rfl rfl ?_
  obtain ⟨j14, b15, e16, hf⟩ := hf
  refine r_aaload h 7 (by decide) (by decide) dX1_personAt_25 j14 (v := .ref b15) (by rw [e16]; rfl) ?_
  exact r_areturn h hq dX1_personAt_26 ⟨_, rfl, hf⟩
theorem c1231 {l : Launch} {G : gG} {X : gX} {cc : ByteArray} {nL F L bc bs pc : Nat} {M : gM} {lv : List (Nat × Value)} {rest : List Value} {a0 : Nat} {a1 : Int32} {K : Nat → gM → Prop} {KX : Addr → String → gM → Prop} (hl : l.stackTraces = false) (h : hX l G X cc nL "GlacierMail" F L) (d : decode cc pc = .ok (.invokevirtual 225, 3)) (hk : kd M a0 = some (.inl 1)) (hf : f_X1_personAt a0 a1 M K KX) (hst : (rest.map fun v => v.category).sum ≤ 8) (hF : 14 ≤ F) (hL : 241 ≤ L) (h1 : 1 ≤ bc) (h2 : 6 ≤ bs) (kk : ∀ x M1, K x M1 → V l G X (bc - 1) (bs - 6) M1 (pc + 3) lv (.ref x :: rest)) (kx : ∀ q E M1, KX q E M1 → VX l G X (bc - 1) (bs - 6) M1 pc lv q E) : V l G X bc bs M pc lv (.int a1 :: .ref a0 :: rest) := r_callV (n := 1) (As := [.int a1]) h (m_X1_personAt hl hf) 1 rfl hk rfl ⟨by decide, by decide, by decide +kernel⟩ d q1231 q1233 qs32 q135 q1234 rfl rfl hst hF hL h1 h2 (kA_go kk) kx
def f_X7_isRock (a0 : Nat) (M : gM) (K : Int32 → gM → Prop) : Prop :=
  kd M a0 = some (.inl 7) ∧ if (iv M a0 1) = (-1) then K 1 M else K 0 M
set_option maxHeartbeats 4000000 in
theorem m_X7_isRock {l : Launch} (hl : l.stackTraces = false) {G : gG} {a0 : Nat} {M : gM} {K : Int32 → gM → Prop} (hf : f_X7_isRock a0 M K) : gMet l G yX7_isRock (ws_ yX7_isRock cX7_isRock 1 (some Jvm.ClassFile.FieldType.boolean)) ({ frames := 0, cells := 0, slots := 0, locals := 0 }) M [.ref a0] (kI K) kN := by
  refine gm_of hl (ret := (some Jvm.ClassFile.FieldType.boolean)) rfl (Nat.le_of_ble_eq_true rfl) (fun X h hq => ?_)
  have h : hX l G X cX7_isRock 1 "GlacierMail$Letter" 0 0 := h
  have hf := hf
  show V l G X 0 0 M 0 [(0, .ref a0)] []
  unfold f_X7_isRock at hf
  refine r_aload_n h 0 dX7_isRock_0 rfl rfl ?_
  obtain ⟨k1, hf⟩ := hf
  refine g281 h dX7_isRock_1 k1 ?_
  refine r_iconst (v := (-1)) h dX7_isRock_4 (by decide) ?_
  refine r_icmp_ne (tgt := 12) h dX7_isRock_5 (by decide) (fun c2 => ?_) (fun c2 => ?_)
  · have hf := ite_f c2 hf
    refine r_iconst (v := 0) h dX7_isRock_12 (by decide) ?_
    exact r_zreturn h hq dX7_isRock_13 (by decide) ⟨_, rfl, hf⟩
  · have hf := ite_t c2 hf
    refine r_iconst (v := 1) h dX7_isRock_8 (by decide) ?_
    refine r_goto (tgt := 13) h dX7_isRock_9 (by decide) ?_
    exact r_zreturn h hq dX7_isRock_13 (by decide) ⟨_, rfl, hf⟩
theorem c653 {l : Launch} {G : gG} {X : gX} {cc : ByteArray} {nL F L bc bs pc : Nat} {M : gM} {lv : List (Nat × Value)} {rest : List Value} {a0 : Nat} {K : Int32 → gM → Prop} (hl : l.stackTraces = false) (h : hX l G X cc nL "GlacierMail$Trip" F L) (d : decode cc pc = .ok (.invokevirtual 66, 3)) (hk : kd M a0 = some (.inl 7)) (hf : f_X7_isRock a0 M K) (hst : (rest.map fun v => v.category).sum ≤ 8) (hF : 1 ≤ F) (hL : 20 ≤ L) (kk : ∀ x M1, K x M1 → V l G X bc bs M1 (pc + 3) lv (.int x :: rest)) : V l G X bc bs M pc lv (.ref a0 :: rest) := r_callV (n := 0) (As := []) h (m_X7_isRock hl hf) 7 rfl hk rfl ⟨by decide, by decide, by decide +kernel⟩ d q653 q654 q655 q141 q656 rfl rfl hst hF hL (Nat.zero_le _) (Nat.zero_le _) (kI_go kk) kN_go
theorem c748 {l : Launch} {G : gG} {X : gX} {cc : ByteArray} {nL F L bc bs pc : Nat} {M : gM} {lv : List (Nat × Value)} {rest : List Value} {a0 : Nat} {K : Int32 → gM → Prop} (hl : l.stackTraces = false) (h : hX l G X cc nL "GlacierMail" F L) (d : decode cc pc = .ok (.invokevirtual 202, 3)) (hk : kd M a0 = some (.inl 7)) (hf : f_X7_isRock a0 M K) (hst : (rest.map fun v => v.category).sum ≤ 8) (hF : 1 ≤ F) (hL : 20 ≤ L) (kk : ∀ x M1, K x M1 → V l G X bc bs M1 (pc + 3) lv (.int x :: rest)) : V l G X bc bs M pc lv (.ref a0 :: rest) := r_callV (n := 0) (As := []) h (m_X7_isRock hl hf) 7 rfl hk rfl ⟨by decide, by decide, by decide +kernel⟩ d q748 q654 q655 q141 q656 rfl rfl hst hF hL (Nat.zero_le _) (Nat.zero_le _) (kI_go kk) kN_go
def f_X1_flowOf (a0 : Nat) (a1 : Int32) (a2 : Int32) (a3 : Int32) (M : gM) (K : Int32 → gM → Prop) : Prop :=
  ∀ P11 : Nat → Int32 → Int32 → Int32 → Int32 → gM → Prop,
  ∀ P40 : Nat → Int32 → Int32 → Int32 → gM → Prop,
  (∀ (v0 : Nat) (v1 : Int32) (v2 : Int32) (v3 : Int32) (v4 : Int32) (M : gM), (kd M v0 = some (.inl 1) ∧ ∃ b4, rv M v0 6 = some b4 ∧ ∃ n6, kd M b4 = some (.inr (0, n6)) ∧ if (nI n6) ≤ v4 then ∀ M9, M9 = sI M v0 14 v1 → P40 v0 v1 v2 v3 M9 else ∃ b10, rv M v0 6 = some b10 ∧ inA M b10 0 v4 ∧ ∀ M13, M13 = sI M b10 (ix v4) (-1) → P11 v0 v1 v2 v3 (v4 + 1) M13) → P11 v0 v1 v2 v3 v4 M) →
  (∀ (v0 : Nat) (v1 : Int32) (v2 : Int32) (v3 : Int32) (M : gM), (kd M v0 = some (.inl 1) ∧ ∃ b15, rv M v0 6 = some b15 ∧ inA M b15 0 (((99 : Int32) * v3) + v2) ∧ if (iv M b15 (ix (((99 : Int32) * v3) + v2))) = (-1) then ∃ b22, rv M v0 6 = some b22 ∧ ∃ b24, rv M v0 1 = some b24 ∧ kd M b24 = some (.inl 3) ∧ f_X3_flow b24 v1 v2 v3 M (fun x28 M27 => inA M27 b22 0 (((99 : Int32) * v3) + v2) ∧ ∀ M30, M30 = sI M27 b22 (ix (((99 : Int32) * v3) + v2)) x28 → kd M30 v0 = some (.inl 1) ∧ ∃ b32, rv M30 v0 6 = some b32 ∧ inA M30 b32 0 (((99 : Int32) * v3) + v2) ∧ K (iv M30 b32 (ix (((99 : Int32) * v3) + v2))) M30) else ∃ b19, rv M v0 6 = some b19 ∧ inA M b19 0 (((99 : Int32) * v3) + v2) ∧ K (iv M b19 (ix (((99 : Int32) * v3) + v2))) M) → P40 v0 v1 v2 v3 M) →
  kd M a0 = some (.inl 1) ∧ if (iv M a0 14) = a1 then P40 a0 a1 a2 a3 M else P11 a0 a1 a2 a3 0 M
set_option maxHeartbeats 4000000 in
theorem m_X1_flowOf {l : Launch} (hl : l.stackTraces = false) {G : gG} {a0 : Nat} {a1 : Int32} {a2 : Int32} {a3 : Int32} {M : gM} {K : Int32 → gM → Prop} (hf : f_X1_flowOf a0 a1 a2 a3 M K) : gMet l G yX1_flowOf (ws_ yX1_flowOf cX1_flowOf 5 (some Jvm.ClassFile.FieldType.int)) ({ frames := 26, cells := 0, slots := 0, locals := 575 }) M [.ref a0, .int a1, .int a2, .int a3] (kI K) kN := by
  refine gm_of hl (ret := (some Jvm.ClassFile.FieldType.int)) rfl (Nat.le_of_ble_eq_true rfl) (fun X h hq => ?_)
  have h : hX l G X cX1_flowOf 5 "GlacierMail" 26 575 := h
  have hf := hf
  show V l G X 0 0 M 0 [(0, .ref a0), (1, .int a1), (2, .int a2), (3, .int a3)] []
  have hf := hf
    (fun v0 v1 v2 v3 v4 M => V l G X 0 0 M 11 [(0, .ref v0), (1, .int v1), (2, .int v2), (3, .int v3), (4, .int v4)] [])
    (fun v0 v1 v2 v3 M => V l G X 0 0 M 40 [(0, .ref v0), (1, .int v1), (2, .int v2), (3, .int v3)] [])
    (by
      intro v0 v1 v2 v3 v4 M hf
      show V l G X 0 0 M 11 [(0, .ref v0), (1, .int v1), (2, .int v2), (3, .int v3), (4, .int v4)] []
      refine r_iload h 4 dX1_flowOf_11 rfl ?_
      refine r_aload_n h 0 dX1_flowOf_13 rfl rfl ?_
      obtain ⟨k3, hf⟩ := hf
      obtain ⟨b4, e5, hf⟩ := hf
      refine g579 h dX1_flowOf_14 k3 e5 ?_
      obtain ⟨n6, k7, hf⟩ := hf
      refine r_alen h 0 n6 (by decide) dX1_flowOf_17 k7 ?_
      refine r_icmp_ge (tgt := 35) h dX1_flowOf_18 (by decide) (fun c8 => ?_) (fun c8 => ?_)
      · have hf := ite_t c8 hf
        refine r_aload_n h 0 dX1_flowOf_35 rfl rfl ?_
        refine r_iload_n h 1 dX1_flowOf_36 rfl rfl ?_
        refine p587 h dX1_flowOf_37 k3 ?_
        refine r_goW (fun M9 eM9 => ?_)
        have hf := hf M9 eM9
        exact V.sub [0, 1, 2, 3] rfl hf
      · have hf := ite_f c8 hf
        refine r_aload_n h 0 dX1_flowOf_21 rfl rfl ?_
        obtain ⟨b10, e11, hf⟩ := hf
        refine g579 h dX1_flowOf_22 k3 e11 ?_
        refine r_iload h 4 dX1_flowOf_25 rfl ?_
        refine r_iconst (v := (-1)) h dX1_flowOf_27 (by decide) ?_
        obtain ⟨j12, hf⟩ := hf
        refine r_iastore h dX1_flowOf_28 j12 ?_
        refine r_goW (fun M13 eM13 => ?_)
        have hf := hf M13 eM13
        refine r_iinc (v := v4 + 1) (lv' := [(4, .int (v4 + 1)), (0, .ref v0), (1, .int v1), (2, .int v2), (3, .int v3)]) h 4 dX1_flowOf_29 rfl rfl (by decide) rfl ?_
        refine r_goto (tgt := 11) h dX1_flowOf_32 (by decide) ?_
        exact V.sub [1, 2, 3, 4, 0] rfl hf)
    (by
      intro v0 v1 v2 v3 M hf
      show V l G X 0 0 M 40 [(0, .ref v0), (1, .int v1), (2, .int v2), (3, .int v3)] []
      refine r_bipush (v := 99) h dX1_flowOf_40 (by decide) ?_
      refine r_iload_n h 3 dX1_flowOf_42 rfl rfl ?_
      refine r_imul h dX1_flowOf_43 ?_
      refine r_iload_n h 2 dX1_flowOf_44 rfl rfl ?_
      refine r_iadd h dX1_flowOf_45 ?_
      refine r_istore (lv' := [(4, .int (((99 : Int32) * v3) + v2)), (0, .ref v0), (1, .int v1), (2, .int v2), (3, .int v3)]) h dX1_flowOf_46 (by decide) rfl ?_
      refine r_aload_n h 1 dX1_flowOf_48 rfl rfl ?_
      obtain ⟨k14, hf⟩ := hf
      obtain ⟨b15, e16, hf⟩ := hf
      refine g579 h dX1_flowOf_49 k14 e16 ?_
      refine r_iload h 0 dX1_flowOf_52 rfl ?_
      obtain ⟨j17, hf⟩ := hf
      refine r_iaload h dX1_flowOf_54 j17 ?_
      refine r_iconst (v := (-1)) h dX1_flowOf_55 (by decide) ?_
      refine r_icmp_ne (tgt := 76) h dX1_flowOf_56 (by decide) (fun c18 => ?_) (fun c18 => ?_)
      · have hf := ite_f c18 hf
        refine r_aload_n h 1 dX1_flowOf_76 rfl rfl ?_
        obtain ⟨b19, e20, hf⟩ := hf
        refine g579 h dX1_flowOf_77 k14 e20 ?_
        refine r_iload h 0 dX1_flowOf_80 rfl ?_
        obtain ⟨j21, hf⟩ := hf
        refine r_iaload h dX1_flowOf_82 j21 ?_
        exact r_ireturn h hq dX1_flowOf_83 ⟨_, rfl, hf⟩
      · have hf := ite_t c18 hf
        refine r_aload_n h 1 dX1_flowOf_59 rfl rfl ?_
        obtain ⟨b22, e23, hf⟩ := hf
        refine g579 h dX1_flowOf_60 k14 e23 ?_
        refine r_iload h 0 dX1_flowOf_63 rfl ?_
        refine r_aload_n h 1 dX1_flowOf_65 rfl rfl ?_
        obtain ⟨b24, e25, hf⟩ := hf
        refine g573 h dX1_flowOf_66 k14 e25 ?_
        refine r_iload_n h 2 dX1_flowOf_69 rfl rfl ?_
        refine r_iload_n h 3 dX1_flowOf_70 rfl rfl ?_
        refine r_iload_n h 4 dX1_flowOf_71 rfl rfl ?_
        obtain ⟨k26, hf⟩ := hf
        refine c666 hl h dX1_flowOf_72 k26 hf (Nat.le_of_ble_eq_true rfl) (by decide) (by decide) (fun x28 M27 hf => ?_)
        obtain ⟨j29, hf⟩ := hf
        refine r_iastore h dX1_flowOf_75 j29 ?_
        refine r_goW (fun M30 eM30 => ?_)
        have hf := hf M30 eM30
        refine r_aload_n h 1 dX1_flowOf_76 rfl rfl ?_
        obtain ⟨k31, hf⟩ := hf
        obtain ⟨b32, e33, hf⟩ := hf
        refine g579 h dX1_flowOf_77 k31 e33 ?_
        refine r_iload h 0 dX1_flowOf_80 rfl ?_
        obtain ⟨j34, hf⟩ := hf
        refine r_iaload h dX1_flowOf_82 j34 ?_
        exact r_ireturn h hq dX1_flowOf_83 ⟨_, rfl, hf⟩)
  refine r_aload_n h 0 dX1_flowOf_0 rfl rfl ?_
  obtain ⟨k1, hf⟩ := hf
  refine g587 h dX1_flowOf_1 k1 ?_
  refine r_iload_n h 1 dX1_flowOf_4 rfl rfl ?_
  refine r_icmp_eq (tgt := 40) h dX1_flowOf_5 (by decide) (fun c2 => ?_) (fun c2 => ?_)
  · have hf := ite_t c2 hf
    exact V.sub [0, 1, 2, 3] rfl hf
  · have hf := ite_f c2 hf
    refine r_iconst (v := 0) h dX1_flowOf_8 (by decide) ?_
    refine r_istore (lv' := [(4, .int 0), (0, .ref a0), (1, .int a1), (2, .int a2), (3, .int a3)]) h dX1_flowOf_9 (by decide) rfl ?_
    exact V.sub [1, 2, 3, 4, 0] rfl hf
theorem c1413 {l : Launch} {G : gG} {X : gX} {cc : ByteArray} {nL F L bc bs pc : Nat} {M : gM} {lv : List (Nat × Value)} {rest : List Value} {a0 : Nat} {a1 : Int32} {a2 : Int32} {a3 : Int32} {K : Int32 → gM → Prop} (hl : l.stackTraces = false) (h : hX l G X cc nL "GlacierMail" F L) (d : decode cc pc = .ok (.invokevirtual 329, 3)) (hk : kd M a0 = some (.inl 1)) (hf : f_X1_flowOf a0 a1 a2 a3 M K) (hst : (rest.map fun v => v.category).sum ≤ 8) (hF : 27 ≤ F) (hL : 599 ≤ L) (kk : ∀ x M1, K x M1 → V l G X bc bs M1 (pc + 3) lv (.int x :: rest)) : V l G X bc bs M pc lv (.int a3 :: .int a2 :: .int a1 :: .ref a0 :: rest) := r_callV (n := 3) (As := [.int a1, .int a2, .int a3]) h (m_X1_flowOf hl hf) 1 rfl hk rfl ⟨by decide, by decide, by decide +kernel⟩ d q1413 q664 qs3 q135 q665 rfl rfl hst hF hL (Nat.zero_le _) (Nat.zero_le _) (kI_go kk) kN_go
theorem c662 {l : Launch} {G : gG} {X : gX} {cc : ByteArray} {nL F L bc bs pc : Nat} {M : gM} {lv : List (Nat × Value)} {rest : List Value} {a0 : Nat} {a1 : Int32} {a2 : Int32} {a3 : Int32} {K : Int32 → gM → Prop} (hl : l.stackTraces = false) (h : hX l G X cc nL "GlacierMail$Trip" F L) (d : decode cc pc = .ok (.invokevirtual 39, 3)) (hk : kd M a0 = some (.inl 1)) (hf : f_X1_flowOf a0 a1 a2 a3 M K) (hst : (rest.map fun v => v.category).sum ≤ 8) (hF : 27 ≤ F) (hL : 599 ≤ L) (kk : ∀ x M1, K x M1 → V l G X bc bs M1 (pc + 3) lv (.int x :: rest)) : V l G X bc bs M pc lv (.int a3 :: .int a2 :: .int a1 :: .ref a0 :: rest) := r_callVN (n := 3) (As := [.int a1, .int a2, .int a3]) h (m_X1_flowOf hl hf) 1 rfl hk rfl ⟨by decide, by decide, by decide +kernel⟩ d (List.mem_of_getElem? (i := 6) rfl) q664 qs3 q135 q665 rfl rfl hst hF hL (Nat.zero_le _) (Nat.zero_le _) (kI_go kk) kN_go
def f_X3_flooded (a0 : Nat) (a1 : Int32) (a2 : Int32) (M : gM) (K : Int32 → gM → Prop) : Prop :=
  ∀ P5 : Nat → Int32 → Int32 → Int32 → gM → Prop,
  (∀ (v0 : Nat) (v2 : Int32) (v3 : Int32) (v4 : Int32) (M : gM), (kd M v0 = some (.inl 3) ∧ if (iv M v0 12) ≤ v4 then K v3 M else ∃ b3, rv M v0 1 = some b3 ∧ inA M b3 6 v4 ∧ ∃ b6, rv M b3 (ix v4) = some b6 ∧ kd M b6 = some (.inl 5) ∧ if (iv M b6 0) = v2 then ∃ b10, rv M v0 1 = some b10 ∧ inA M b10 6 v4 ∧ ∃ b13, rv M b10 (ix v4) = some b13 ∧ kd M b13 = some (.inl 5) ∧ if v3 < (iv M b13 1) then P5 v0 v2 v3 (v4 + 1) M else ∃ b17, rv M v0 1 = some b17 ∧ inA M b17 6 v4 ∧ ∃ b20, rv M b17 (ix v4) = some b20 ∧ kd M b20 = some (.inl 5) ∧ P5 v0 v2 (v3 + (iv M b20 2)) (v4 + 1) M else P5 v0 v2 v3 (v4 + 1) M) → P5 v0 v2 v3 v4 M) →
  P5 a0 a2 a1 0 M
set_option maxHeartbeats 4000000 in
theorem m_X3_flooded {l : Launch} (hl : l.stackTraces = false) {G : gG} {a0 : Nat} {a1 : Int32} {a2 : Int32} {M : gM} {K : Int32 → gM → Prop} (hf : f_X3_flooded a0 a1 a2 M K) : gMet l G yX3_flooded (ws_ yX3_flooded cX3_flooded 5 (some Jvm.ClassFile.FieldType.int)) ({ frames := 0, cells := 0, slots := 0, locals := 0 }) M [.ref a0, .int a1, .int a2] (kI K) kN := by
  refine gm_of hl (ret := (some Jvm.ClassFile.FieldType.int)) rfl (Nat.le_of_ble_eq_true rfl) (fun X h hq => ?_)
  have h : hX l G X cX3_flooded 5 "GlacierMail$State" 0 0 := h
  have hf := hf
  show V l G X 0 0 M 0 [(0, .ref a0), (1, .int a1), (2, .int a2)] []
  have hf := hf
    (fun v0 v2 v3 v4 M => V l G X 0 0 M 5 [(0, .ref v0), (2, .int v2), (3, .int v3), (4, .int v4)] [])
    (by
      intro v0 v2 v3 v4 M hf
      show V l G X 0 0 M 5 [(0, .ref v0), (2, .int v2), (3, .int v3), (4, .int v4)] []
      refine r_iload h 3 dX3_flooded_5 rfl ?_
      refine r_aload_n h 0 dX3_flooded_7 rfl rfl ?_
      obtain ⟨k1, hf⟩ := hf
      refine g351 h dX3_flooded_8 k1 ?_
      refine r_icmp_ge (tgt := 61) h dX3_flooded_11 (by decide) (fun c2 => ?_) (fun c2 => ?_)
      · have hf := ite_t c2 hf
        refine r_iload_n h 2 dX3_flooded_61 rfl rfl ?_
        exact r_ireturn h hq dX3_flooded_62 ⟨_, rfl, hf⟩
      · have hf := ite_f c2 hf
        refine r_aload_n h 0 dX3_flooded_14 rfl rfl ?_
        obtain ⟨b3, e4, hf⟩ := hf
        refine g322 h dX3_flooded_15 k1 e4 ?_
        refine r_iload h 3 dX3_flooded_18 rfl ?_
        obtain ⟨j5, b6, e7, hf⟩ := hf
        refine r_aaload h 6 (by decide) (by decide) dX3_flooded_20 j5 (v := .ref b6) (by rw [e7]; rfl) ?_
        obtain ⟨k8, hf⟩ := hf
        refine g237 h dX3_flooded_21 k8 ?_
        refine r_iload_n h 1 dX3_flooded_24 rfl rfl ?_
        refine r_icmp_ne (tgt := 55) h dX3_flooded_25 (by decide) (fun c9 => ?_) (fun c9 => ?_)
        · have hf := ite_f c9 hf
          refine r_iinc (v := v4 + 1) (lv' := [(4, .int (v4 + 1)), (0, .ref v0), (2, .int v2), (3, .int v3)]) h 3 dX3_flooded_55 rfl rfl (by decide) rfl ?_
          refine r_goto (tgt := 5) h dX3_flooded_58 (by decide) ?_
          exact V.sub [1, 2, 3, 0] rfl hf
        · have hf := ite_t c9 hf
          refine r_aload_n h 0 dX3_flooded_28 rfl rfl ?_
          obtain ⟨b10, e11, hf⟩ := hf
          refine g322 h dX3_flooded_29 k1 e11 ?_
          refine r_iload h 3 dX3_flooded_32 rfl ?_
          obtain ⟨j12, b13, e14, hf⟩ := hf
          refine r_aaload h 6 (by decide) (by decide) dX3_flooded_34 j12 (v := .ref b13) (by rw [e14]; rfl) ?_
          obtain ⟨k15, hf⟩ := hf
          refine g241 h dX3_flooded_35 k15 ?_
          refine r_iload_n h 2 dX3_flooded_38 rfl rfl ?_
          refine r_icmp_gt (tgt := 55) h dX3_flooded_39 (by decide) (fun c16 => ?_) (fun c16 => ?_)
          · have hf := ite_t c16 hf
            refine r_iinc (v := v4 + 1) (lv' := [(4, .int (v4 + 1)), (0, .ref v0), (2, .int v2), (3, .int v3)]) h 3 dX3_flooded_55 rfl rfl (by decide) rfl ?_
            refine r_goto (tgt := 5) h dX3_flooded_58 (by decide) ?_
            exact V.sub [1, 2, 3, 0] rfl hf
          · have hf := ite_f c16 hf
            refine r_iload_n h 2 dX3_flooded_42 rfl rfl ?_
            refine r_aload_n h 0 dX3_flooded_43 rfl rfl ?_
            obtain ⟨b17, e18, hf⟩ := hf
            refine g322 h dX3_flooded_44 k1 e18 ?_
            refine r_iload h 3 dX3_flooded_47 rfl ?_
            obtain ⟨j19, b20, e21, hf⟩ := hf
            refine r_aaload h 6 (by decide) (by decide) dX3_flooded_49 j19 (v := .ref b20) (by rw [e21]; rfl) ?_
            obtain ⟨k22, hf⟩ := hf
            refine g244 h dX3_flooded_50 k22 ?_
            refine r_iadd h dX3_flooded_53 ?_
            refine r_istore_n (lv' := [(3, .int (v3 + (iv M b20 2))), (0, .ref v0), (2, .int v2), (4, .int v4)]) h dX3_flooded_54 rfl (by decide) rfl ?_
            refine r_iinc (v := v4 + 1) (lv' := [(4, .int (v4 + 1)), (3, .int (v3 + (iv M b20 2))), (0, .ref v0), (2, .int v2)]) h 3 dX3_flooded_55 rfl rfl (by decide) rfl ?_
            refine r_goto (tgt := 5) h dX3_flooded_58 (by decide) ?_
            exact V.sub [2, 3, 1, 0] rfl hf)
  refine r_iload_n h 1 dX3_flooded_0 rfl rfl ?_
  refine r_istore_n (lv' := [(3, .int a1), (0, .ref a0), (1, .int a1), (2, .int a2)]) h dX3_flooded_1 rfl (by decide) rfl ?_
  refine r_iconst (v := 0) h dX3_flooded_2 (by decide) ?_
  refine r_istore (lv' := [(4, .int 0), (3, .int a1), (0, .ref a0), (1, .int a1), (2, .int a2)]) h dX3_flooded_3 (by decide) rfl ?_
  exact V.sub [2, 4, 1, 0] rfl hf
theorem c734 {l : Launch} {G : gG} {X : gX} {cc : ByteArray} {nL F L bc bs pc : Nat} {M : gM} {lv : List (Nat × Value)} {rest : List Value} {a0 : Nat} {a1 : Int32} {a2 : Int32} {K : Int32 → gM → Prop} (hl : l.stackTraces = false) (h : hX l G X cc nL "GlacierMail$Trip" F L) (d : decode cc pc = .ok (.invokevirtual 43, 3)) (hk : kd M a0 = some (.inl 3)) (hf : f_X3_flooded a0 a1 a2 M K) (hst : (rest.map fun v => v.category).sum ≤ 8) (hF : 1 ≤ F) (hL : 24 ≤ L) (kk : ∀ x M1, K x M1 → V l G X bc bs M1 (pc + 3) lv (.int x :: rest)) : V l G X bc bs M pc lv (.int a2 :: .int a1 :: .ref a0 :: rest) := r_callV (n := 2) (As := [.int a1, .int a2]) h (m_X3_flooded hl hf) 3 rfl hk rfl ⟨by decide, by decide, by decide +kernel⟩ d q734 q735 q736 q137 q737 rfl rfl hst hF hL (Nat.zero_le _) (Nat.zero_le _) (kI_go kk) kN_go
theorem c1414 {l : Launch} {G : gG} {X : gX} {cc : ByteArray} {nL F L bc bs pc : Nat} {M : gM} {lv : List (Nat × Value)} {rest : List Value} {a0 : Nat} {a1 : Int32} {a2 : Int32} {K : Int32 → gM → Prop} (hl : l.stackTraces = false) (h : hX l G X cc nL "GlacierMail" F L) (d : decode cc pc = .ok (.invokevirtual 332, 3)) (hk : kd M a0 = some (.inl 3)) (hf : f_X3_flooded a0 a1 a2 M K) (hst : (rest.map fun v => v.category).sum ≤ 8) (hF : 1 ≤ F) (hL : 24 ≤ L) (kk : ∀ x M1, K x M1 → V l G X bc bs M1 (pc + 3) lv (.int x :: rest)) : V l G X bc bs M pc lv (.int a2 :: .int a1 :: .ref a0 :: rest) := r_callV (n := 2) (As := [.int a1, .int a2]) h (m_X3_flooded hl hf) 3 rfl hk rfl ⟨by decide, by decide, by decide +kernel⟩ d q1414 q735 q736 q137 q737 rfl rfl hst hF hL (Nat.zero_le _) (Nat.zero_le _) (kI_go kk) kN_go
def f_X3_sinks (a0 : Nat) (a1 : Int32) (a2 : Int32) (a3 : Int32) (M : gM) (K : Int32 → gM → Prop) : Prop :=
  kd M a0 = some (.inl 3) ∧ if (iv M a0 18) ≤ a2 then ∃ b3, rv M a0 7 = some b3 ∧ inA M b3 0 a3 ∧ ∀ x6, x6 = (if 0 < (a1 - (iv M b3 (ix a3))) then (a1 - (iv M b3 (ix a3))) else 0) → K x6 M else ∀ x7, x7 = (if (a1 + (iv M a0 19)) < 99 then (a1 + (iv M a0 19)) else 99) → K x7 M
set_option maxHeartbeats 4000000 in
theorem m_X3_sinks {l : Launch} (hl : l.stackTraces = false) {G : gG} {a0 : Nat} {a1 : Int32} {a2 : Int32} {a3 : Int32} {M : gM} {K : Int32 → gM → Prop} (hf : f_X3_sinks a0 a1 a2 a3 M K) : gMet l G yX3_sinks (ws_ yX3_sinks cX3_sinks 4 (some Jvm.ClassFile.FieldType.int)) ({ frames := 1, cells := 0, slots := 0, locals := 21 }) M [.ref a0, .int a1, .int a2, .int a3] (kI K) kN := by
  refine gm_of hl (ret := (some Jvm.ClassFile.FieldType.int)) rfl (Nat.le_of_ble_eq_true rfl) (fun X h hq => ?_)
  have h : hX l G X cX3_sinks 4 "GlacierMail$State" 1 21 := h
  have hf := hf
  show V l G X 0 0 M 0 [(0, .ref a0), (1, .int a1), (2, .int a2), (3, .int a3)] []
  unfold f_X3_sinks at hf
  refine r_iload_n h 2 dX3_sinks_0 rfl rfl ?_
  refine r_aload_n h 0 dX3_sinks_1 rfl rfl ?_
  obtain ⟨k1, hf⟩ := hf
  refine g367 h dX3_sinks_2 k1 ?_
  refine r_icmp_ge (tgt := 22) h dX3_sinks_5 (by decide) (fun c2 => ?_) (fun c2 => ?_)
  · have hf := ite_t c2 hf
    refine r_iconst (v := 0) h dX3_sinks_22 (by decide) ?_
    refine r_iload_n h 1 dX3_sinks_23 rfl rfl ?_
    refine r_aload_n h 0 dX3_sinks_24 rfl rfl ?_
    obtain ⟨b3, e4, hf⟩ := hf
    refine g338 h dX3_sinks_25 k1 e4 ?_
    refine r_iload_n h 3 dX3_sinks_28 rfl rfl ?_
    obtain ⟨j5, hf⟩ := hf
    refine r_iaload h dX3_sinks_29 j5 ?_
    refine r_isub h dX3_sinks_30 ?_
    refine r_mmax h q731 q732 q165 q733 dX3_sinks_31 (by decide) (by decide) (Nat.le_of_ble_eq_true rfl) ?_
    refine r_nam (fun x6 ex6 => ?_)
    have hf := hf x6 ex6
    exact r_ireturn h hq dX3_sinks_34 ⟨_, rfl, hf⟩
  · have hf := ite_f c2 hf
    refine r_bipush (v := 99) h dX3_sinks_8 (by decide) ?_
    refine r_iload_n h 1 dX3_sinks_10 rfl rfl ?_
    refine r_aload_n h 0 dX3_sinks_11 rfl rfl ?_
    refine g370 h dX3_sinks_12 k1 ?_
    refine r_iadd h dX3_sinks_15 ?_
    refine r_mmin h q728 q729 q165 q730 dX3_sinks_16 (by decide) (by decide) (Nat.le_of_ble_eq_true rfl) ?_
    refine r_nam (fun x7 ex7 => ?_)
    have hf := hf x7 ex7
    refine r_goto (tgt := 34) h dX3_sinks_19 (by decide) ?_
    exact r_ireturn h hq dX3_sinks_34 ⟨_, rfl, hf⟩
theorem c739 {l : Launch} {G : gG} {X : gX} {cc : ByteArray} {nL F L bc bs pc : Nat} {M : gM} {lv : List (Nat × Value)} {rest : List Value} {a0 : Nat} {a1 : Int32} {a2 : Int32} {a3 : Int32} {K : Int32 → gM → Prop} (hl : l.stackTraces = false) (h : hX l G X cc nL "GlacierMail$Trip" F L) (d : decode cc pc = .ok (.invokevirtual 52, 3)) (hk : kd M a0 = some (.inl 3)) (hf : f_X3_sinks a0 a1 a2 a3 M K) (hst : (rest.map fun v => v.category).sum ≤ 8) (hF : 2 ≤ F) (hL : 44 ≤ L) (kk : ∀ x M1, K x M1 → V l G X bc bs M1 (pc + 3) lv (.int x :: rest)) : V l G X bc bs M pc lv (.int a3 :: .int a2 :: .int a1 :: .ref a0 :: rest) := r_callV (n := 3) (As := [.int a1, .int a2, .int a3]) h (m_X3_sinks hl hf) 3 rfl hk rfl ⟨by decide, by decide, by decide +kernel⟩ d q739 q740 q741 q137 q742 rfl rfl hst hF hL (Nat.zero_le _) (Nat.zero_le _) (kI_go kk) kN_go
def f_X9_goes (a0 : Nat) (a1 : Int32) (a2 : Int32) (a3 : Int32) (a4 : Int32) (M : gM) (K : Nat → gM → Prop) : Prop :=
  ∀ P28 : Nat → Int32 → Int32 → Int32 → gM → Prop,
  ∀ P52 : Nat → Int32 → Int32 → Int32 → Int32 → gM → Prop,
  ∀ P109 : Nat → Int32 → Int32 → Int32 → Int32 → Int32 → gM → Prop,
  ∀ P193 : Nat → Int32 → Int32 → Int32 → Int32 → Int32 → Int32 → Int32 → Nat → gM → Prop,
  (∀ (v0 : Nat) (v1 : Int32) (v4 : Int32) (v5 : Int32) (M : gM), (if 300 ≤ (v5 + 1) then K v0 M else kd M v0 = some (.inl 9) ∧ if (iv M v0 3) = 2147483647 then P52 v0 v1 v4 v5 0 M else P52 v0 v1 v4 v5 1 M) → P28 v0 v1 v4 v5 M) →
  (∀ (v0 : Nat) (v1 : Int32) (v4 : Int32) (v5 : Int32) (s0 : Int32) (M : gM), (if s0 = 0 then kd M v0 = some (.inl 9) ∧ ∃ b20, rv M v0 4 = some b20 ∧ kd M b20 = some (.inl 1) ∧ ∃ b23, rv M b20 1 = some b23 ∧ ∃ b25, rv M v0 0 = some b25 ∧ inA M b25 0 v5 ∧ ∃ b28, rv M v0 4 = some b28 ∧ ∃ b30, rv M v0 0 = some b30 ∧ inA M b30 0 v5 ∧ kd M b28 = some (.inl 1) ∧ f_X1_flowOf b28 v1 (iv M b30 (ix v5)) v5 M (fun x35 M34 => kd M34 b23 = some (.inl 3) ∧ f_X3_flooded b23 ((iv M b25 (ix v5)) + x35) v5 M34 (fun x38 M37 => P109 v0 v1 v4 v5 s0 x38 M37)) else kd M v0 = some (.inl 9) ∧ ∃ b40, rv M v0 4 = some b40 ∧ kd M b40 = some (.inl 1) ∧ ∃ b43, rv M b40 1 = some b43 ∧ kd M b43 = some (.inl 3) ∧ P109 v0 v1 v4 v5 s0 (iv M b43 10) M) → P52 v0 v1 v4 v5 s0 M) →
  (∀ (v0 : Nat) (v1 : Int32) (v4 : Int32) (v5 : Int32) (v6 : Int32) (s0 : Int32) (M : gM), (kd M v0 = some (.inl 9) ∧ ∃ b47, rv M v0 0 = some b47 ∧ ∃ b49, rv M v0 4 = some b49 ∧ kd M b49 = some (.inl 1) ∧ ∃ b52, rv M b49 1 = some b52 ∧ kd M b52 = some (.inl 3) ∧ ∀ x55, x55 = (if (iv M b52 10) < s0 then (iv M b52 10) else s0) → inA M b47 0 (v5 + 1) ∧ ∀ M57, M57 = sI M b47 (ix (v5 + 1)) x55 → kd M57 v0 = some (.inl 9) ∧ ∃ b59, rv M57 v0 1 = some b59 ∧ if v6 = 0 then if v4 = 0 then ∃ b63, rv M57 v0 4 = some b63 ∧ kd M57 b63 = some (.inl 1) ∧ ∃ b66, rv M57 b63 1 = some b66 ∧ ∃ b68, rv M57 v0 1 = some b68 ∧ inA M57 b68 0 v5 ∧ ∃ b71, rv M57 v0 0 = some b71 ∧ inA M57 b71 0 v5 ∧ kd M57 b66 = some (.inl 3) ∧ f_X3_sinks b66 (iv M57 b68 (ix v5)) (iv M57 b71 (ix v5)) v5 M57 (fun x76 M75 => P193 v0 v1 v4 v5 v6 s0 x76 (v5 + 1) b59 M75) else P193 v0 v1 v4 v5 v6 s0 0 (v5 + 1) b59 M57 else ∃ b77, rv M57 v0 1 = some b77 ∧ inA M57 b77 0 v5 ∧ P193 v0 v1 v4 v5 v6 s0 (iv M57 b77 (ix v5)) (v5 + 1) b59 M57) → P109 v0 v1 v4 v5 v6 s0 M) →
  (∀ (v0 : Nat) (v1 : Int32) (v4 : Int32) (v5 : Int32) (v6 : Int32) (v7 : Int32) (s0 : Int32) (s1 : Int32) (s2 : Nat) (M : gM), (inA M s2 0 s1 ∧ ∀ M81, M81 = sI M s2 (ix s1) s0 → if v6 = 0 then kd M81 v0 = some (.inl 9) ∧ ∃ b84, rv M81 v0 4 = some b84 ∧ kd M81 b84 = some (.inl 1) ∧ ∃ b87, rv M81 b84 1 = some b87 ∧ kd M81 b87 = some (.inl 3) ∧ if v7 < (iv M81 b87 10) then P28 v0 v1 v4 (v5 + 1) M81 else ∀ M91, M91 = sI M81 v0 3 (v5 + 1) → P28 v0 v1 v4 (v5 + 1) M91 else P28 v0 v1 v4 (v5 + 1) M81) → P193 v0 v1 v4 v5 v6 v7 s0 s1 s2 M) →
  kd M a0 = some (.inl 9) ∧ ∀ M2, M2 = sI M a0 2 a3 → kd M2 a0 = some (.inl 9) ∧ ∀ M4, M4 = sI M2 a0 3 2147483647 → kd M4 a0 = some (.inl 9) ∧ ∃ b6, rv M4 a0 0 = some b6 ∧ inA M4 b6 0 a3 ∧ ∀ M9, M9 = sI M4 b6 (ix a3) a2 → kd M9 a0 = some (.inl 9) ∧ ∃ b11, rv M9 a0 1 = some b11 ∧ inA M9 b11 0 a3 ∧ ∀ M14, M14 = sI M9 b11 (ix a3) 0 → P28 a0 a1 a4 a3 M14
set_option maxHeartbeats 4000000 in
theorem m_X9_goes {l : Launch} (hl : l.stackTraces = false) {G : gG} {a0 : Nat} {a1 : Int32} {a2 : Int32} {a3 : Int32} {a4 : Int32} {M : gM} {K : Nat → gM → Prop} (hf : f_X9_goes a0 a1 a2 a3 a4 M K) : gMet l G yX9_goes (ws_ yX9_goes cX9_goes 8 (some (Jvm.ClassFile.FieldType.object "GlacierMail$Trip"))) ({ frames := 27, cells := 0, slots := 0, locals := 599 }) M [.ref a0, .int a1, .int a2, .int a3, .int a4] (kA K) kN := by
  refine gm_of hl (ret := (some (Jvm.ClassFile.FieldType.object "GlacierMail$Trip"))) rfl (Nat.le_of_ble_eq_true rfl) (fun X h hq => ?_)
  have h : hX l G X cX9_goes 8 "GlacierMail$Trip" 27 599 := h
  have hf := hf
  show V l G X 0 0 M 0 [(0, .ref a0), (1, .int a1), (2, .int a2), (3, .int a3), (4, .int a4)] []
  have hf := hf
    (fun v0 v1 v4 v5 M => V l G X 0 0 M 28 [(0, .ref v0), (1, .int v1), (4, .int v4), (5, .int v5)] [])
    (fun v0 v1 v4 v5 s0 M => V l G X 0 0 M 52 [(0, .ref v0), (1, .int v1), (4, .int v4), (5, .int v5)] [.int s0])
    (fun v0 v1 v4 v5 v6 s0 M => V l G X 0 0 M 109 [(0, .ref v0), (1, .int v1), (4, .int v4), (5, .int v5), (6, .int v6)] [.int s0])
    (fun v0 v1 v4 v5 v6 v7 s0 s1 s2 M => V l G X 0 0 M 193 [(0, .ref v0), (1, .int v1), (4, .int v4), (5, .int v5), (6, .int v6), (7, .int v7)] [.int s0, .int s1, .ref s2])
    (by
      intro v0 v1 v4 v5 M hf
      show V l G X 0 0 M 28 [(0, .ref v0), (1, .int v1), (4, .int v4), (5, .int v5)] []
      refine r_iload h 3 dX9_goes_28 rfl ?_
      refine r_iconst (v := 1) h dX9_goes_30 (by decide) ?_
      refine r_iadd h dX9_goes_31 ?_
      refine r_sipush (v := 300) h dX9_goes_32 (by decide) ?_
      refine r_icmp_ge (tgt := 228) h dX9_goes_35 (by decide) (fun c15 => ?_) (fun c15 => ?_)
      · have hf := ite_t c15 hf
        refine r_aload_n h 0 dX9_goes_228 rfl rfl ?_
        exact r_areturn h hq dX9_goes_229 ⟨_, rfl, hf⟩
      · have hf := ite_f c15 hf
        refine r_aload_n h 0 dX9_goes_38 rfl rfl ?_
        obtain ⟨k16, hf⟩ := hf
        refine g558 h dX9_goes_39 k16 ?_
        refine r_ldc (v := 2147483647) h dX9_goes_42 q661 ?_
        refine r_icmp_eq (tgt := 51) h dX9_goes_44 (by decide) (fun c17 => ?_) (fun c17 => ?_)
        · have hf := ite_t c17 hf
          refine r_iconst (v := 0) h dX9_goes_51 (by decide) ?_
          exact V.sub [0, 1, 2, 3] rfl hf
        · have hf := ite_f c17 hf
          refine r_iconst (v := 1) h dX9_goes_47 (by decide) ?_
          refine r_goto (tgt := 52) h dX9_goes_48 (by decide) ?_
          exact V.sub [0, 1, 2, 3] rfl hf)
    (by
      intro v0 v1 v4 v5 s0 M hf
      show V l G X 0 0 M 52 [(0, .ref v0), (1, .int v1), (4, .int v4), (5, .int v5)] [.int s0]
      refine r_istore (lv' := [(6, .int s0), (0, .ref v0), (1, .int v1), (4, .int v4), (5, .int v5)]) h dX9_goes_52 (by decide) rfl ?_
      refine r_iload h 0 dX9_goes_54 rfl ?_
      refine r_if_eq (tgt := 72) h dX9_goes_56 (by decide) (fun c18 => ?_) (fun c18 => ?_)
      · have hf := ite_t c18 hf
        refine r_aload_n h 1 dX9_goes_72 rfl rfl ?_
        obtain ⟨k19, hf⟩ := hf
        obtain ⟨b20, e21, hf⟩ := hf
        refine g560 h dX9_goes_73 k19 e21 ?_
        obtain ⟨k22, hf⟩ := hf
        obtain ⟨b23, e24, hf⟩ := hf
        refine g574 h dX9_goes_76 k22 e24 ?_
        refine r_aload_n h 1 dX9_goes_79 rfl rfl ?_
        obtain ⟨b25, e26, hf⟩ := hf
        refine g552 h dX9_goes_80 k19 e26 ?_
        refine r_iload h 4 dX9_goes_83 rfl ?_
        obtain ⟨j27, hf⟩ := hf
        refine r_iaload h dX9_goes_85 j27 ?_
        refine r_aload_n h 1 dX9_goes_86 rfl rfl ?_
        obtain ⟨b28, e29, hf⟩ := hf
        refine g560 h dX9_goes_87 k19 e29 ?_
        refine r_iload_n h 2 dX9_goes_90 rfl rfl ?_
        refine r_aload_n h 1 dX9_goes_91 rfl rfl ?_
        obtain ⟨b30, e31, hf⟩ := hf
        refine g552 h dX9_goes_92 k19 e31 ?_
        refine r_iload h 4 dX9_goes_95 rfl ?_
        obtain ⟨j32, hf⟩ := hf
        refine r_iaload h dX9_goes_97 j32 ?_
        refine r_iload h 4 dX9_goes_98 rfl ?_
        obtain ⟨k33, hf⟩ := hf
        refine c662 hl h dX9_goes_100 k33 hf (Nat.le_of_ble_eq_true rfl) (by decide) (by decide) (fun x35 M34 hf => ?_)
        refine r_iadd h dX9_goes_103 ?_
        refine r_iload h 4 dX9_goes_104 rfl ?_
        obtain ⟨k36, hf⟩ := hf
        refine c734 hl h dX9_goes_106 k36 hf (Nat.le_of_ble_eq_true rfl) (by decide) (by decide) (fun x38 M37 hf => ?_)
        exact V.sub [1, 2, 3, 4, 0] rfl hf
      · have hf := ite_f c18 hf
        refine r_aload_n h 1 dX9_goes_59 rfl rfl ?_
        obtain ⟨k39, hf⟩ := hf
        obtain ⟨b40, e41, hf⟩ := hf
        refine g560 h dX9_goes_60 k39 e41 ?_
        obtain ⟨k42, hf⟩ := hf
        obtain ⟨b43, e44, hf⟩ := hf
        refine g574 h dX9_goes_63 k42 e44 ?_
        obtain ⟨k45, hf⟩ := hf
        refine g345 h dX9_goes_66 k45 ?_
        refine r_goto (tgt := 109) h dX9_goes_69 (by decide) ?_
        exact V.sub [1, 2, 3, 4, 0] rfl hf)
    (by
      intro v0 v1 v4 v5 v6 s0 M hf
      show V l G X 0 0 M 109 [(0, .ref v0), (1, .int v1), (4, .int v4), (5, .int v5), (6, .int v6)] [.int s0]
      refine r_istore (lv' := [(7, .int s0), (0, .ref v0), (1, .int v1), (4, .int v4), (5, .int v5), (6, .int v6)]) h dX9_goes_109 (by decide) rfl ?_
      refine r_aload_n h 1 dX9_goes_111 rfl rfl ?_
      obtain ⟨k46, hf⟩ := hf
      obtain ⟨b47, e48, hf⟩ := hf
      refine g552 h dX9_goes_112 k46 e48 ?_
      refine r_iload h 4 dX9_goes_115 rfl ?_
      refine r_iconst (v := 1) h dX9_goes_117 (by decide) ?_
      refine r_iadd h dX9_goes_118 ?_
      refine r_iload h 0 dX9_goes_119 rfl ?_
      refine r_aload_n h 1 dX9_goes_121 rfl rfl ?_
      obtain ⟨b49, e50, hf⟩ := hf
      refine g560 h dX9_goes_122 k46 e50 ?_
      obtain ⟨k51, hf⟩ := hf
      obtain ⟨b52, e53, hf⟩ := hf
      refine g574 h dX9_goes_125 k51 e53 ?_
      obtain ⟨k54, hf⟩ := hf
      refine g345 h dX9_goes_128 k54 ?_
      refine r_mmin h q738 q729 q165 q730 dX9_goes_131 (by decide) (by decide) (Nat.le_of_ble_eq_true rfl) ?_
      refine r_nam (fun x55 ex55 => ?_)
      have hf := hf x55 ex55
      obtain ⟨j56, hf⟩ := hf
      refine r_iastore h dX9_goes_134 j56 ?_
      refine r_goW (fun M57 eM57 => ?_)
      have hf := hf M57 eM57
      refine r_aload_n h 1 dX9_goes_135 rfl rfl ?_
      obtain ⟨k58, hf⟩ := hf
      obtain ⟨b59, e60, hf⟩ := hf
      refine g554 h dX9_goes_136 k58 e60 ?_
      refine r_iload h 4 dX9_goes_139 rfl ?_
      refine r_iconst (v := 1) h dX9_goes_141 (by decide) ?_
      refine r_iadd h dX9_goes_142 ?_
      refine r_iload h 5 dX9_goes_143 rfl ?_
      refine r_if_eq (tgt := 158) h dX9_goes_145 (by decide) (fun c61 => ?_) (fun c61 => ?_)
      · have hf := ite_t c61 hf
        refine r_iload h 3 dX9_goes_158 rfl ?_
        refine r_if_eq (tgt := 167) h dX9_goes_160 (by decide) (fun c62 => ?_) (fun c62 => ?_)
        · have hf := ite_t c62 hf
          refine r_aload_n h 1 dX9_goes_167 rfl rfl ?_
          obtain ⟨b63, e64, hf⟩ := hf
          refine g560 h dX9_goes_168 k58 e64 ?_
          obtain ⟨k65, hf⟩ := hf
          obtain ⟨b66, e67, hf⟩ := hf
          refine g574 h dX9_goes_171 k65 e67 ?_
          refine r_aload_n h 1 dX9_goes_174 rfl rfl ?_
          obtain ⟨b68, e69, hf⟩ := hf
          refine g554 h dX9_goes_175 k58 e69 ?_
          refine r_iload h 4 dX9_goes_178 rfl ?_
          obtain ⟨j70, hf⟩ := hf
          refine r_iaload h dX9_goes_180 j70 ?_
          refine r_aload_n h 1 dX9_goes_181 rfl rfl ?_
          obtain ⟨b71, e72, hf⟩ := hf
          refine g552 h dX9_goes_182 k58 e72 ?_
          refine r_iload h 4 dX9_goes_185 rfl ?_
          obtain ⟨j73, hf⟩ := hf
          refine r_iaload h dX9_goes_187 j73 ?_
          refine r_iload h 4 dX9_goes_188 rfl ?_
          obtain ⟨k74, hf⟩ := hf
          refine c739 hl h dX9_goes_190 k74 hf (Nat.le_of_ble_eq_true rfl) (by decide) (by decide) (fun x76 M75 hf => ?_)
          exact V.sub [1, 2, 3, 4, 5, 0] rfl hf
        · have hf := ite_f c62 hf
          refine r_iconst (v := 0) h dX9_goes_163 (by decide) ?_
          refine r_goto (tgt := 193) h dX9_goes_164 (by decide) ?_
          exact V.sub [1, 2, 3, 4, 5, 0] rfl hf
      · have hf := ite_f c61 hf
        refine r_aload_n h 1 dX9_goes_148 rfl rfl ?_
        obtain ⟨b77, e78, hf⟩ := hf
        refine g554 h dX9_goes_149 k58 e78 ?_
        refine r_iload h 4 dX9_goes_152 rfl ?_
        obtain ⟨j79, hf⟩ := hf
        refine r_iaload h dX9_goes_154 j79 ?_
        refine r_goto (tgt := 193) h dX9_goes_155 (by decide) ?_
        exact V.sub [1, 2, 3, 4, 5, 0] rfl hf)
    (by
      intro v0 v1 v4 v5 v6 v7 s0 s1 s2 M hf
      show V l G X 0 0 M 193 [(0, .ref v0), (1, .int v1), (4, .int v4), (5, .int v5), (6, .int v6), (7, .int v7)] [.int s0, .int s1, .ref s2]
      obtain ⟨j80, hf⟩ := hf
      refine r_iastore h dX9_goes_193 j80 ?_
      refine r_goW (fun M81 eM81 => ?_)
      have hf := hf M81 eM81
      refine r_iload h 4 dX9_goes_194 rfl ?_
      refine r_if_ne (tgt := 222) h dX9_goes_196 (by decide) (fun c82 => ?_) (fun c82 => ?_)
      · have hf := ite_f c82 hf
        refine r_iinc (v := v5 + 1) (lv' := [(5, .int (v5 + 1)), (0, .ref v0), (1, .int v1), (4, .int v4), (6, .int v6), (7, .int v7)]) h 3 dX9_goes_222 rfl rfl (by decide) rfl ?_
        refine r_goto (tgt := 28) h dX9_goes_225 (by decide) ?_
        exact V.sub [1, 2, 3, 0] rfl hf
      · have hf := ite_t c82 hf
        refine r_iload h 5 dX9_goes_199 rfl ?_
        refine r_aload_n h 0 dX9_goes_201 rfl rfl ?_
        obtain ⟨k83, hf⟩ := hf
        obtain ⟨b84, e85, hf⟩ := hf
        refine g560 h dX9_goes_202 k83 e85 ?_
        obtain ⟨k86, hf⟩ := hf
        obtain ⟨b87, e88, hf⟩ := hf
        refine g574 h dX9_goes_205 k86 e88 ?_
        obtain ⟨k89, hf⟩ := hf
        refine g345 h dX9_goes_208 k89 ?_
        refine r_icmp_lt (tgt := 222) h dX9_goes_211 (by decide) (fun c90 => ?_) (fun c90 => ?_)
        · have hf := ite_t c90 hf
          refine r_iinc (v := v5 + 1) (lv' := [(5, .int (v5 + 1)), (0, .ref v0), (1, .int v1), (4, .int v4), (6, .int v6), (7, .int v7)]) h 3 dX9_goes_222 rfl rfl (by decide) rfl ?_
          refine r_goto (tgt := 28) h dX9_goes_225 (by decide) ?_
          exact V.sub [1, 2, 3, 0] rfl hf
        · have hf := ite_f c90 hf
          refine r_aload_n h 0 dX9_goes_214 rfl rfl ?_
          refine r_iload h 3 dX9_goes_215 rfl ?_
          refine r_iconst (v := 1) h dX9_goes_217 (by decide) ?_
          refine r_iadd h dX9_goes_218 ?_
          refine p558 h dX9_goes_219 k83 ?_
          refine r_goW (fun M91 eM91 => ?_)
          have hf := hf M91 eM91
          refine r_iinc (v := v5 + 1) (lv' := [(5, .int (v5 + 1)), (0, .ref v0), (1, .int v1), (4, .int v4), (6, .int v6), (7, .int v7)]) h 3 dX9_goes_222 rfl rfl (by decide) rfl ?_
          refine r_goto (tgt := 28) h dX9_goes_225 (by decide) ?_
          exact V.sub [1, 2, 3, 0] rfl hf)
  refine r_aload_n h 0 dX9_goes_0 rfl rfl ?_
  refine r_iload_n h 3 dX9_goes_1 rfl rfl ?_
  obtain ⟨k1, hf⟩ := hf
  refine p556 h dX9_goes_2 k1 ?_
  refine r_goW (fun M2 eM2 => ?_)
  have hf := hf M2 eM2
  refine r_aload_n h 0 dX9_goes_5 rfl rfl ?_
  refine r_ldc (v := 2147483647) h dX9_goes_6 q661 ?_
  obtain ⟨k3, hf⟩ := hf
  refine p558 h dX9_goes_8 k3 ?_
  refine r_goW (fun M4 eM4 => ?_)
  have hf := hf M4 eM4
  refine r_aload_n h 0 dX9_goes_11 rfl rfl ?_
  obtain ⟨k5, hf⟩ := hf
  obtain ⟨b6, e7, hf⟩ := hf
  refine g552 h dX9_goes_12 k5 e7 ?_
  refine r_iload_n h 3 dX9_goes_15 rfl rfl ?_
  refine r_iload_n h 2 dX9_goes_16 rfl rfl ?_
  obtain ⟨j8, hf⟩ := hf
  refine r_iastore h dX9_goes_17 j8 ?_
  refine r_goW (fun M9 eM9 => ?_)
  have hf := hf M9 eM9
  refine r_aload_n h 0 dX9_goes_18 rfl rfl ?_
  obtain ⟨k10, hf⟩ := hf
  obtain ⟨b11, e12, hf⟩ := hf
  refine g554 h dX9_goes_19 k10 e12 ?_
  refine r_iload_n h 3 dX9_goes_22 rfl rfl ?_
  refine r_iconst (v := 0) h dX9_goes_23 (by decide) ?_
  obtain ⟨j13, hf⟩ := hf
  refine r_iastore h dX9_goes_24 j13 ?_
  refine r_goW (fun M14 eM14 => ?_)
  have hf := hf M14 eM14
  refine r_iload_n h 3 dX9_goes_25 rfl rfl ?_
  refine r_istore (lv' := [(5, .int a3), (0, .ref a0), (1, .int a1), (2, .int a2), (3, .int a3), (4, .int a4)]) h dX9_goes_26 (by decide) rfl ?_
  exact V.sub [1, 2, 5, 0] rfl hf
theorem c657 {l : Launch} {G : gG} {X : gX} {cc : ByteArray} {nL F L bc bs pc : Nat} {M : gM} {lv : List (Nat × Value)} {rest : List Value} {a0 : Nat} {a1 : Int32} {a2 : Int32} {a3 : Int32} {a4 : Int32} {K : Nat → gM → Prop} (hl : l.stackTraces = false) (h : hX l G X cc nL "GlacierMail$Trip" F L) (d : decode cc pc = .ok (.invokevirtual 70, 3)) (hk : kd M a0 = some (.inl 9)) (hf : f_X9_goes a0 a1 a2 a3 a4 M K) (hst : (rest.map fun v => v.category).sum ≤ 8) (hF : 28 ≤ F) (hL : 626 ≤ L) (kk : ∀ x M1, K x M1 → V l G X bc bs M1 (pc + 3) lv (.ref x :: rest)) : V l G X bc bs M pc lv (.int a4 :: .int a3 :: .int a2 :: .int a1 :: .ref a0 :: rest) := r_callV (n := 4) (As := [.int a1, .int a2, .int a3, .int a4]) h (m_X9_goes hl hf) 9 rfl hk rfl ⟨by decide, by decide, by decide +kernel⟩ d q657 q658 q659 q146 q660 rfl rfl hst hF hL (Nat.zero_le _) (Nat.zero_le _) (kA_go kk) kN_go
theorem c1380 {l : Launch} {G : gG} {X : gX} {cc : ByteArray} {nL F L bc bs pc : Nat} {M : gM} {lv : List (Nat × Value)} {rest : List Value} {a0 : Nat} {a1 : Int32} {a2 : Int32} {a3 : Int32} {a4 : Int32} {K : Nat → gM → Prop} (hl : l.stackTraces = false) (h : hX l G X cc nL "GlacierMail" F L) (d : decode cc pc = .ok (.invokevirtual 310, 3)) (hk : kd M a0 = some (.inl 9)) (hf : f_X9_goes a0 a1 a2 a3 a4 M K) (hst : (rest.map fun v => v.category).sum ≤ 8) (hF : 28 ≤ F) (hL : 626 ≤ L) (kk : ∀ x M1, K x M1 → V l G X bc bs M1 (pc + 3) lv (.ref x :: rest)) : V l G X bc bs M pc lv (.int a4 :: .int a3 :: .int a2 :: .int a1 :: .ref a0 :: rest) := r_callV (n := 4) (As := [.int a1, .int a2, .int a3, .int a4]) h (m_X9_goes hl hf) 9 rfl hk rfl ⟨by decide, by decide, by decide +kernel⟩ d q1380 q658 q659 q146 q660 rfl rfl hst hF hL (Nat.zero_le _) (Nat.zero_le _) (kA_go kk) kN_go
def f_X9_of (a0 : Nat) (a1 : Nat) (M : gM) (K : Nat → gM → Prop) : Prop :=
  kd M a1 = some (.inl 7) ∧ f_X7_isRock a1 M (fun x3 M2 => kd M2 a0 = some (.inl 9) ∧ f_X9_goes a0 (iv M a1 2) (iv M a1 3) (iv M a1 4) x3 M2 (fun b6 M5 => K b6 M5))
set_option maxHeartbeats 4000000 in
theorem m_X9_of {l : Launch} (hl : l.stackTraces = false) {G : gG} {a0 : Nat} {a1 : Nat} {M : gM} {K : Nat → gM → Prop} (hf : f_X9_of a0 a1 M K) : gMet l G yX9_of (ws_ yX9_of cX9_of 2 (some (Jvm.ClassFile.FieldType.object "GlacierMail$Trip"))) ({ frames := 28, cells := 0, slots := 0, locals := 626 }) M [.ref a0, .ref a1] (kA K) kN := by
  refine gm_of hl (ret := (some (Jvm.ClassFile.FieldType.object "GlacierMail$Trip"))) rfl (Nat.le_of_ble_eq_true rfl) (fun X h hq => ?_)
  have h : hX l G X cX9_of 2 "GlacierMail$Trip" 28 626 := h
  have hf := hf
  show V l G X 0 0 M 0 [(0, .ref a0), (1, .ref a1)] []
  unfold f_X9_of at hf
  refine r_aload_n h 0 dX9_of_0 rfl rfl ?_
  refine r_aload_n h 1 dX9_of_1 rfl rfl ?_
  obtain ⟨k1, hf⟩ := hf
  refine g284 h dX9_of_2 k1 ?_
  refine r_aload_n h 1 dX9_of_5 rfl rfl ?_
  refine g288 h dX9_of_6 k1 ?_
  refine r_aload_n h 1 dX9_of_9 rfl rfl ?_
  refine g291 h dX9_of_10 k1 ?_
  refine r_aload_n h 1 dX9_of_13 rfl rfl ?_
  refine c653 hl h dX9_of_14 k1 hf (Nat.le_of_ble_eq_true rfl) (by decide) (by decide) (fun x3 M2 hf => ?_)
  obtain ⟨k4, hf⟩ := hf
  refine c657 hl h dX9_of_17 k4 hf (Nat.le_of_ble_eq_true rfl) (by decide) (by decide) (fun b6 M5 hf => ?_)
  exact r_areturn h hq dX9_of_20 ⟨_, rfl, hf⟩
theorem c649 {l : Launch} {G : gG} {X : gX} {cc : ByteArray} {nL F L bc bs pc : Nat} {M : gM} {lv : List (Nat × Value)} {rest : List Value} {a0 : Nat} {a1 : Nat} {K : Nat → gM → Prop} (hl : l.stackTraces = false) (h : hX l G X cc nL "GlacierMail" F L) (d : decode cc pc = .ok (.invokevirtual 195, 3)) (hk : kd M a0 = some (.inl 9)) (hf : f_X9_of a0 a1 M K) (hst : (rest.map fun v => v.category).sum ≤ 8) (hF : 29 ≤ F) (hL : 647 ≤ L) (kk : ∀ x M1, K x M1 → V l G X bc bs M1 (pc + 3) lv (.ref x :: rest)) : V l G X bc bs M pc lv (.ref a1 :: .ref a0 :: rest) := r_callV (n := 1) (As := [.ref a1]) h (m_X9_of hl hf) 9 rfl hk rfl ⟨by decide, by decide, by decide +kernel⟩ d q649 q650 q651 q146 q652 rfl rfl hst hF hL (Nat.zero_le _) (Nat.zero_le _) (kA_go kk) kN_go
def f_X1_isOutBy (a0 : Nat) (a1 : Nat) (a2 : Int32) (M : gM) (K : Int32 → gM → Prop) : Prop :=
  kd M a1 = some (.inl 7) ∧ if a2 < (iv M a1 4) then K 0 M else kd M a0 = some (.inl 1) ∧ ∃ b4, rv M a0 4 = some b4 ∧ kd M b4 = some (.inl 9) ∧ f_X9_of b4 a1 M (fun b8 M7 => kd M7 b8 = some (.inl 9) ∧ if a2 < (iv M7 b8 3) then K 0 M7 else K 1 M7)
set_option maxHeartbeats 4000000 in
theorem m_X1_isOutBy {l : Launch} (hl : l.stackTraces = false) {G : gG} {a0 : Nat} {a1 : Nat} {a2 : Int32} {M : gM} {K : Int32 → gM → Prop} (hf : f_X1_isOutBy a0 a1 a2 M K) : gMet l G yX1_isOutBy (ws_ yX1_isOutBy cX1_isOutBy 3 (some Jvm.ClassFile.FieldType.boolean)) ({ frames := 29, cells := 0, slots := 0, locals := 647 }) M [.ref a0, .ref a1, .int a2] (kI K) kN := by
  refine gm_of hl (ret := (some Jvm.ClassFile.FieldType.boolean)) rfl (Nat.le_of_ble_eq_true rfl) (fun X h hq => ?_)
  have h : hX l G X cX1_isOutBy 3 "GlacierMail" 29 647 := h
  have hf := hf
  show V l G X 0 0 M 0 [(0, .ref a0), (1, .ref a1), (2, .int a2)] []
  unfold f_X1_isOutBy at hf
  refine r_aload_n h 1 dX1_isOutBy_0 rfl rfl ?_
  obtain ⟨k1, hf⟩ := hf
  refine g293 h dX1_isOutBy_1 k1 ?_
  refine r_iload_n h 2 dX1_isOutBy_4 rfl rfl ?_
  refine r_icmp_gt (tgt := 27) h dX1_isOutBy_5 (by decide) (fun c2 => ?_) (fun c2 => ?_)
  · have hf := ite_t c2 hf
    refine r_iconst (v := 0) h dX1_isOutBy_27 (by decide) ?_
    exact r_zreturn h hq dX1_isOutBy_28 (by decide) ⟨_, rfl, hf⟩
  · have hf := ite_f c2 hf
    refine r_aload_n h 0 dX1_isOutBy_8 rfl rfl ?_
    obtain ⟨k3, hf⟩ := hf
    obtain ⟨b4, e5, hf⟩ := hf
    refine g577 h dX1_isOutBy_9 k3 e5 ?_
    refine r_aload_n h 1 dX1_isOutBy_12 rfl rfl ?_
    obtain ⟨k6, hf⟩ := hf
    refine c649 hl h dX1_isOutBy_13 k6 hf (Nat.le_of_ble_eq_true rfl) (by decide) (by decide) (fun b8 M7 hf => ?_)
    obtain ⟨k9, hf⟩ := hf
    refine g559 h dX1_isOutBy_16 k9 ?_
    refine r_iload_n h 2 dX1_isOutBy_19 rfl rfl ?_
    refine r_icmp_gt (tgt := 27) h dX1_isOutBy_20 (by decide) (fun c10 => ?_) (fun c10 => ?_)
    · have hf := ite_t c10 hf
      refine r_iconst (v := 0) h dX1_isOutBy_27 (by decide) ?_
      exact r_zreturn h hq dX1_isOutBy_28 (by decide) ⟨_, rfl, hf⟩
    · have hf := ite_f c10 hf
      refine r_iconst (v := 1) h dX1_isOutBy_23 (by decide) ?_
      refine r_goto (tgt := 28) h dX1_isOutBy_24 (by decide) ?_
      exact r_zreturn h hq dX1_isOutBy_28 (by decide) ⟨_, rfl, hf⟩
theorem c811 {l : Launch} {G : gG} {X : gX} {cc : ByteArray} {nL F L bc bs pc : Nat} {M : gM} {lv : List (Nat × Value)} {rest : List Value} {a0 : Nat} {a1 : Nat} {a2 : Int32} {K : Int32 → gM → Prop} (hl : l.stackTraces = false) (h : hX l G X cc nL "GlacierMail" F L) (d : decode cc pc = .ok (.invokevirtual 211, 3)) (hk : kd M a0 = some (.inl 1)) (hf : f_X1_isOutBy a0 a1 a2 M K) (hst : (rest.map fun v => v.category).sum ≤ 8) (hF : 30 ≤ F) (hL : 669 ≤ L) (kk : ∀ x M1, K x M1 → V l G X bc bs M1 (pc + 3) lv (.int x :: rest)) : V l G X bc bs M pc lv (.int a2 :: .ref a1 :: .ref a0 :: rest) := r_callV (n := 2) (As := [.ref a1, .int a2]) h (m_X1_isOutBy hl hf) 1 rfl hk rfl ⟨by decide, by decide, by decide +kernel⟩ d q811 q813 qs7 q135 q814 rfl rfl hst hF hL (Nat.zero_le _) (Nat.zero_le _) (kI_go kk) kN_go
def f_X1_waits (a0 : Nat) (a1 : Nat) (M : gM) (K : Int32 → gM → Prop) : Prop :=
  kd M a1 = some (.inl 7) ∧ f_X7_isRock a1 M (fun x3 M2 => if x3 = 0 then kd M2 a1 = some (.inl 7) ∧ if (iv M2 a1 5) = (-1) then kd M2 a0 = some (.inl 1) ∧ ∃ b8, rv M2 a0 1 = some b8 ∧ kd M2 b8 = some (.inl 3) ∧ f_X1_isOutBy a0 a1 (iv M2 b8 22) M2 (fun x12 M11 => if x12 = 0 then K 0 M11 else K 1 M11) else K 0 M2 else K 0 M2)
set_option maxHeartbeats 4000000 in
theorem m_X1_waits {l : Launch} (hl : l.stackTraces = false) {G : gG} {a0 : Nat} {a1 : Nat} {M : gM} {K : Int32 → gM → Prop} (hf : f_X1_waits a0 a1 M K) : gMet l G yX1_waits (ws_ yX1_waits cX1_waits 2 (some Jvm.ClassFile.FieldType.boolean)) ({ frames := 30, cells := 0, slots := 0, locals := 669 }) M [.ref a0, .ref a1] (kI K) kN := by
  refine gm_of hl (ret := (some Jvm.ClassFile.FieldType.boolean)) rfl (Nat.le_of_ble_eq_true rfl) (fun X h hq => ?_)
  have h : hX l G X cX1_waits 2 "GlacierMail" 30 669 := h
  have hf := hf
  show V l G X 0 0 M 0 [(0, .ref a0), (1, .ref a1)] []
  unfold f_X1_waits at hf
  refine r_aload_n h 1 dX1_waits_0 rfl rfl ?_
  obtain ⟨k1, hf⟩ := hf
  refine c748 hl h dX1_waits_1 k1 hf (Nat.le_of_ble_eq_true rfl) (by decide) (by decide) (fun x3 M2 hf => ?_)
  refine r_if_ne (tgt := 34) h dX1_waits_4 (by decide) (fun c4 => ?_) (fun c4 => ?_)
  · have hf := ite_f c4 hf
    refine r_iconst (v := 0) h dX1_waits_34 (by decide) ?_
    exact r_zreturn h hq dX1_waits_35 (by decide) ⟨_, rfl, hf⟩
  · have hf := ite_t c4 hf
    refine r_aload_n h 1 dX1_waits_7 rfl rfl ?_
    obtain ⟨k5, hf⟩ := hf
    refine g296 h dX1_waits_8 k5 ?_
    refine r_iconst (v := (-1)) h dX1_waits_11 (by decide) ?_
    refine r_icmp_ne (tgt := 34) h dX1_waits_12 (by decide) (fun c6 => ?_) (fun c6 => ?_)
    · have hf := ite_f c6 hf
      refine r_iconst (v := 0) h dX1_waits_34 (by decide) ?_
      exact r_zreturn h hq dX1_waits_35 (by decide) ⟨_, rfl, hf⟩
    · have hf := ite_t c6 hf
      refine r_aload_n h 0 dX1_waits_15 rfl rfl ?_
      refine r_aload_n h 1 dX1_waits_16 rfl rfl ?_
      refine r_aload_n h 0 dX1_waits_17 rfl rfl ?_
      obtain ⟨k7, hf⟩ := hf
      obtain ⟨b8, e9, hf⟩ := hf
      refine g573 h dX1_waits_18 k7 e9 ?_
      obtain ⟨k10, hf⟩ := hf
      refine g381 h dX1_waits_21 k10 ?_
      refine c811 hl h dX1_waits_24 k7 hf (Nat.le_of_ble_eq_true rfl) (by decide) (by decide) (fun x12 M11 hf => ?_)
      refine r_if_eq (tgt := 34) h dX1_waits_27 (by decide) (fun c13 => ?_) (fun c13 => ?_)
      · have hf := ite_t c13 hf
        refine r_iconst (v := 0) h dX1_waits_34 (by decide) ?_
        exact r_zreturn h hq dX1_waits_35 (by decide) ⟨_, rfl, hf⟩
      · have hf := ite_f c13 hf
        refine r_iconst (v := 1) h dX1_waits_30 (by decide) ?_
        refine r_goto (tgt := 35) h dX1_waits_31 (by decide) ?_
        exact r_zreturn h hq dX1_waits_35 (by decide) ⟨_, rfl, hf⟩
theorem c807 {l : Launch} {G : gG} {X : gX} {cc : ByteArray} {nL F L bc bs pc : Nat} {M : gM} {lv : List (Nat × Value)} {rest : List Value} {a0 : Nat} {a1 : Nat} {K : Int32 → gM → Prop} (hl : l.stackTraces = false) (h : hX l G X cc nL "GlacierMail" F L) (d : decode cc pc = .ok (.invokevirtual 221, 3)) (hk : kd M a0 = some (.inl 1)) (hf : f_X1_waits a0 a1 M K) (hst : (rest.map fun v => v.category).sum ≤ 8) (hF : 31 ≤ F) (hL : 690 ≤ L) (kk : ∀ x M1, K x M1 → V l G X bc bs M1 (pc + 3) lv (.int x :: rest)) : V l G X bc bs M pc lv (.ref a1 :: .ref a0 :: rest) := r_callV (n := 1) (As := [.ref a1]) h (m_X1_waits hl hf) 1 rfl hk rfl ⟨by decide, by decide, by decide +kernel⟩ d q807 q809 qs6 q135 q810 rfl rfl hst hF hL (Nat.zero_le _) (Nat.zero_le _) (kI_go kk) kN_go
def f_X1_lettersOf (a0 : Nat) (a1 : Int32) (a2 : Int32) (M : gM) (K : Int32 → gM → Prop) : Prop :=
  ∀ P5 : Nat → Int32 → Int32 → Int32 → Int32 → gM → Prop,
  (∀ (v0 : Nat) (v1 : Int32) (v2 : Int32) (v3 : Int32) (v4 : Int32) (M : gM), (kd M v0 = some (.inl 1) ∧ ∃ b2, rv M v0 1 = some b2 ∧ kd M b2 = some (.inl 3) ∧ if (iv M b2 14) ≤ v4 then K v3 M else ∃ b6, rv M v0 1 = some b6 ∧ kd M b6 = some (.inl 3) ∧ ∃ b9, rv M b6 3 = some b9 ∧ inA M b9 8 v4 ∧ ∃ b12, rv M b9 (ix v4) = some b12 ∧ if v2 = 3 then kd M b12 = some (.inl 7) ∧ if (iv M b12 0) = v1 then P5 v0 v1 v2 (v3 + 1) (v4 + 1) M else P5 v0 v1 v2 (v3 + 0) (v4 + 1) M else if v2 = 4 then kd M b12 = some (.inl 7) ∧ if (iv M b12 5) = v1 then P5 v0 v1 v2 (v3 + 1) (v4 + 1) M else P5 v0 v1 v2 (v3 + 0) (v4 + 1) M else kd M b12 = some (.inl 7) ∧ if (iv M b12 1) = v1 then f_X1_waits v0 b12 M (fun x19 M18 => if x19 = 0 then P5 v0 v1 v2 (v3 + 0) (v4 + 1) M18 else P5 v0 v1 v2 (v3 + 1) (v4 + 1) M18) else P5 v0 v1 v2 (v3 + 0) (v4 + 1) M) → P5 v0 v1 v2 v3 v4 M) →
  P5 a0 a1 a2 0 0 M
set_option maxHeartbeats 4000000 in
theorem m_X1_lettersOf {l : Launch} (hl : l.stackTraces = false) {G : gG} {a0 : Nat} {a1 : Int32} {a2 : Int32} {M : gM} {K : Int32 → gM → Prop} (hf : f_X1_lettersOf a0 a1 a2 M K) : gMet l G yX1_lettersOf (ws_ yX1_lettersOf cX1_lettersOf 6 (some Jvm.ClassFile.FieldType.int)) ({ frames := 31, cells := 0, slots := 0, locals := 690 }) M [.ref a0, .int a1, .int a2] (kI K) kN := by
  refine gm_of hl (ret := (some Jvm.ClassFile.FieldType.int)) rfl (Nat.le_of_ble_eq_true rfl) (fun X h hq => ?_)
  have h : hX l G X cX1_lettersOf 6 "GlacierMail" 31 690 := h
  have hf := hf
  show V l G X 0 0 M 0 [(0, .ref a0), (1, .int a1), (2, .int a2)] []
  have hf := hf
    (fun v0 v1 v2 v3 v4 M => V l G X 0 0 M 5 [(0, .ref v0), (1, .int v1), (2, .int v2), (3, .int v3), (4, .int v4)] [])
    (by
      intro v0 v1 v2 v3 v4 M hf
      show V l G X 0 0 M 5 [(0, .ref v0), (1, .int v1), (2, .int v2), (3, .int v3), (4, .int v4)] []
      refine r_iload h 4 dX1_lettersOf_5 rfl ?_
      refine r_aload_n h 0 dX1_lettersOf_7 rfl rfl ?_
      obtain ⟨k1, hf⟩ := hf
      obtain ⟨b2, e3, hf⟩ := hf
      refine g573 h dX1_lettersOf_8 k1 e3 ?_
      obtain ⟨k4, hf⟩ := hf
      refine g358 h dX1_lettersOf_11 k4 ?_
      refine r_icmp_ge (tgt := 95) h dX1_lettersOf_14 (by decide) (fun c5 => ?_) (fun c5 => ?_)
      · have hf := ite_t c5 hf
        refine r_iload_n h 3 dX1_lettersOf_95 rfl rfl ?_
        exact r_ireturn h hq dX1_lettersOf_96 ⟨_, rfl, hf⟩
      · have hf := ite_f c5 hf
        refine r_aload_n h 0 dX1_lettersOf_17 rfl rfl ?_
        obtain ⟨b6, e7, hf⟩ := hf
        refine g573 h dX1_lettersOf_18 k1 e7 ?_
        obtain ⟨k8, hf⟩ := hf
        obtain ⟨b9, e10, hf⟩ := hf
        refine g329 h dX1_lettersOf_21 k8 e10 ?_
        refine r_iload h 4 dX1_lettersOf_24 rfl ?_
        obtain ⟨j11, b12, e13, hf⟩ := hf
        refine r_aaload h 8 (by decide) (by decide) dX1_lettersOf_26 j11 (v := .ref b12) (by rw [e13]; rfl) ?_
        refine r_astore (lv' := [(5, .ref b12), (0, .ref v0), (1, .int v1), (2, .int v2), (3, .int v3), (4, .int v4)]) h dX1_lettersOf_27 (by decide) rfl ?_
        refine r_iload_n h 4 dX1_lettersOf_29 rfl rfl ?_
        refine r_iload_n h 3 dX1_lettersOf_30 rfl rfl ?_
        refine r_iconst (v := 3) h dX1_lettersOf_31 (by decide) ?_
        refine r_icmp_ne (tgt := 47) h dX1_lettersOf_32 (by decide) (fun c14 => ?_) (fun c14 => ?_)
        · have hf := ite_f c14 hf
          refine r_iload_n h 3 dX1_lettersOf_47 rfl rfl ?_
          refine r_iconst (v := 4) h dX1_lettersOf_48 (by decide) ?_
          refine r_icmp_ne (tgt := 64) h dX1_lettersOf_49 (by decide) (fun c15 => ?_) (fun c15 => ?_)
          · have hf := ite_f c15 hf
            refine r_aload h 0 dX1_lettersOf_64 rfl ?_
            obtain ⟨k16, hf⟩ := hf
            refine g282 h dX1_lettersOf_66 k16 ?_
            refine r_iload_n h 2 dX1_lettersOf_69 rfl rfl ?_
            refine r_icmp_ne (tgt := 86) h dX1_lettersOf_70 (by decide) (fun c17 => ?_) (fun c17 => ?_)
            · have hf := ite_f c17 hf
              refine r_iconst (v := 0) h dX1_lettersOf_86 (by decide) ?_
              refine r_iadd h dX1_lettersOf_87 ?_
              refine r_istore_n (lv' := [(3, .int (v3 + 0)), (5, .ref b12), (0, .ref v0), (1, .int v1), (2, .int v2), (4, .int v4)]) h dX1_lettersOf_88 rfl (by decide) rfl ?_
              refine r_iinc (v := v4 + 1) (lv' := [(4, .int (v4 + 1)), (3, .int (v3 + 0)), (5, .ref b12), (0, .ref v0), (1, .int v1), (2, .int v2)]) h 5 dX1_lettersOf_89 rfl rfl (by decide) rfl ?_
              refine r_goto (tgt := 5) h dX1_lettersOf_92 (by decide) ?_
              exact V.sub [3, 4, 5, 1, 0] rfl hf
            · have hf := ite_t c17 hf
              refine r_aload_n h 1 dX1_lettersOf_73 rfl rfl ?_
              refine r_aload h 0 dX1_lettersOf_74 rfl ?_
              refine c807 hl h dX1_lettersOf_76 k1 hf (Nat.le_of_ble_eq_true rfl) (by decide) (by decide) (fun x19 M18 hf => ?_)
              refine r_if_eq (tgt := 86) h dX1_lettersOf_79 (by decide) (fun c20 => ?_) (fun c20 => ?_)
              · have hf := ite_t c20 hf
                refine r_iconst (v := 0) h dX1_lettersOf_86 (by decide) ?_
                refine r_iadd h dX1_lettersOf_87 ?_
                refine r_istore_n (lv' := [(3, .int (v3 + 0)), (5, .ref b12), (0, .ref v0), (1, .int v1), (2, .int v2), (4, .int v4)]) h dX1_lettersOf_88 rfl (by decide) rfl ?_
                refine r_iinc (v := v4 + 1) (lv' := [(4, .int (v4 + 1)), (3, .int (v3 + 0)), (5, .ref b12), (0, .ref v0), (1, .int v1), (2, .int v2)]) h 5 dX1_lettersOf_89 rfl rfl (by decide) rfl ?_
                refine r_goto (tgt := 5) h dX1_lettersOf_92 (by decide) ?_
                exact V.sub [3, 4, 5, 1, 0] rfl hf
              · have hf := ite_f c20 hf
                refine r_iconst (v := 1) h dX1_lettersOf_82 (by decide) ?_
                refine r_goto (tgt := 87) h dX1_lettersOf_83 (by decide) ?_
                refine r_iadd h dX1_lettersOf_87 ?_
                refine r_istore_n (lv' := [(3, .int (v3 + 1)), (5, .ref b12), (0, .ref v0), (1, .int v1), (2, .int v2), (4, .int v4)]) h dX1_lettersOf_88 rfl (by decide) rfl ?_
                refine r_iinc (v := v4 + 1) (lv' := [(4, .int (v4 + 1)), (3, .int (v3 + 1)), (5, .ref b12), (0, .ref v0), (1, .int v1), (2, .int v2)]) h 5 dX1_lettersOf_89 rfl rfl (by decide) rfl ?_
                refine r_goto (tgt := 5) h dX1_lettersOf_92 (by decide) ?_
                exact V.sub [3, 4, 5, 1, 0] rfl hf
          · have hf := ite_t c15 hf
            refine r_aload h 0 dX1_lettersOf_52 rfl ?_
            obtain ⟨k21, hf⟩ := hf
            refine g296 h dX1_lettersOf_54 k21 ?_
            refine r_iload_n h 2 dX1_lettersOf_57 rfl rfl ?_
            refine r_icmp_ne (tgt := 86) h dX1_lettersOf_58 (by decide) (fun c22 => ?_) (fun c22 => ?_)
            · have hf := ite_f c22 hf
              refine r_iconst (v := 0) h dX1_lettersOf_86 (by decide) ?_
              refine r_iadd h dX1_lettersOf_87 ?_
              refine r_istore_n (lv' := [(3, .int (v3 + 0)), (5, .ref b12), (0, .ref v0), (1, .int v1), (2, .int v2), (4, .int v4)]) h dX1_lettersOf_88 rfl (by decide) rfl ?_
              refine r_iinc (v := v4 + 1) (lv' := [(4, .int (v4 + 1)), (3, .int (v3 + 0)), (5, .ref b12), (0, .ref v0), (1, .int v1), (2, .int v2)]) h 5 dX1_lettersOf_89 rfl rfl (by decide) rfl ?_
              refine r_goto (tgt := 5) h dX1_lettersOf_92 (by decide) ?_
              exact V.sub [3, 4, 5, 1, 0] rfl hf
            · have hf := ite_t c22 hf
              refine r_goto (tgt := 82) h dX1_lettersOf_61 (by decide) ?_
              refine r_iconst (v := 1) h dX1_lettersOf_82 (by decide) ?_
              refine r_goto (tgt := 87) h dX1_lettersOf_83 (by decide) ?_
              refine r_iadd h dX1_lettersOf_87 ?_
              refine r_istore_n (lv' := [(3, .int (v3 + 1)), (5, .ref b12), (0, .ref v0), (1, .int v1), (2, .int v2), (4, .int v4)]) h dX1_lettersOf_88 rfl (by decide) rfl ?_
              refine r_iinc (v := v4 + 1) (lv' := [(4, .int (v4 + 1)), (3, .int (v3 + 1)), (5, .ref b12), (0, .ref v0), (1, .int v1), (2, .int v2)]) h 5 dX1_lettersOf_89 rfl rfl (by decide) rfl ?_
              refine r_goto (tgt := 5) h dX1_lettersOf_92 (by decide) ?_
              exact V.sub [3, 4, 5, 1, 0] rfl hf
        · have hf := ite_t c14 hf
          refine r_aload h 0 dX1_lettersOf_35 rfl ?_
          obtain ⟨k23, hf⟩ := hf
          refine g280 h dX1_lettersOf_37 k23 ?_
          refine r_iload_n h 2 dX1_lettersOf_40 rfl rfl ?_
          refine r_icmp_ne (tgt := 86) h dX1_lettersOf_41 (by decide) (fun c24 => ?_) (fun c24 => ?_)
          · have hf := ite_f c24 hf
            refine r_iconst (v := 0) h dX1_lettersOf_86 (by decide) ?_
            refine r_iadd h dX1_lettersOf_87 ?_
            refine r_istore_n (lv' := [(3, .int (v3 + 0)), (5, .ref b12), (0, .ref v0), (1, .int v1), (2, .int v2), (4, .int v4)]) h dX1_lettersOf_88 rfl (by decide) rfl ?_
            refine r_iinc (v := v4 + 1) (lv' := [(4, .int (v4 + 1)), (3, .int (v3 + 0)), (5, .ref b12), (0, .ref v0), (1, .int v1), (2, .int v2)]) h 5 dX1_lettersOf_89 rfl rfl (by decide) rfl ?_
            refine r_goto (tgt := 5) h dX1_lettersOf_92 (by decide) ?_
            exact V.sub [3, 4, 5, 1, 0] rfl hf
          · have hf := ite_t c24 hf
            refine r_goto (tgt := 82) h dX1_lettersOf_44 (by decide) ?_
            refine r_iconst (v := 1) h dX1_lettersOf_82 (by decide) ?_
            refine r_goto (tgt := 87) h dX1_lettersOf_83 (by decide) ?_
            refine r_iadd h dX1_lettersOf_87 ?_
            refine r_istore_n (lv' := [(3, .int (v3 + 1)), (5, .ref b12), (0, .ref v0), (1, .int v1), (2, .int v2), (4, .int v4)]) h dX1_lettersOf_88 rfl (by decide) rfl ?_
            refine r_iinc (v := v4 + 1) (lv' := [(4, .int (v4 + 1)), (3, .int (v3 + 1)), (5, .ref b12), (0, .ref v0), (1, .int v1), (2, .int v2)]) h 5 dX1_lettersOf_89 rfl rfl (by decide) rfl ?_
            refine r_goto (tgt := 5) h dX1_lettersOf_92 (by decide) ?_
            exact V.sub [3, 4, 5, 1, 0] rfl hf)
  refine r_iconst (v := 0) h dX1_lettersOf_0 (by decide) ?_
  refine r_istore_n (lv' := [(3, .int 0), (0, .ref a0), (1, .int a1), (2, .int a2)]) h dX1_lettersOf_1 rfl (by decide) rfl ?_
  refine r_iconst (v := 0) h dX1_lettersOf_2 (by decide) ?_
  refine r_istore (lv' := [(4, .int 0), (3, .int 0), (0, .ref a0), (1, .int a1), (2, .int a2)]) h dX1_lettersOf_3 (by decide) rfl ?_
  exact V.sub [2, 3, 4, 1, 0] rfl hf
theorem c1235 {l : Launch} {G : gG} {X : gX} {cc : ByteArray} {nL F L bc bs pc : Nat} {M : gM} {lv : List (Nat × Value)} {rest : List Value} {a0 : Nat} {a1 : Int32} {a2 : Int32} {K : Int32 → gM → Prop} (hl : l.stackTraces = false) (h : hX l G X cc nL "GlacierMail" F L) (d : decode cc pc = .ok (.invokevirtual 239, 3)) (hk : kd M a0 = some (.inl 1)) (hf : f_X1_lettersOf a0 a1 a2 M K) (hst : (rest.map fun v => v.category).sum ≤ 8) (hF : 32 ≤ F) (hL : 715 ≤ L) (kk : ∀ x M1, K x M1 → V l G X bc bs M1 (pc + 3) lv (.int x :: rest)) : V l G X bc bs M pc lv (.int a2 :: .int a1 :: .ref a0 :: rest) := r_callV (n := 2) (As := [.int a1, .int a2]) h (m_X1_lettersOf hl hf) 1 rfl hk rfl ⟨by decide, by decide, by decide +kernel⟩ d q1235 q1237 qs33 q135 q1238 rfl rfl hst hF hL (Nat.zero_le _) (Nat.zero_le _) (kI_go kk) kN_go
def f_X1_person (a0 : Nat) (a1 : Int32) (a2 : Int32) (M : gM) (K : Int32 → gM → Prop) (KX : Addr → String → gM → Prop) : Prop :=
  kd M a0 = some (.inl 1) ∧ f_X1_personAt a0 a1 M (fun b3 M2 => if a2 = 0 then kd M2 b3 = some (.inl 6) ∧ K (iv M2 b3 0) M2 else if a2 = 1 then kd M2 b3 = some (.inl 6) ∧ K (iv M2 b3 1) M2 else if a2 = 2 then kd M2 b3 = some (.inl 6) ∧ K (iv M2 b3 2) M2 else if a2 = 3 then kd M2 a0 = some (.inl 1) ∧ f_X1_lettersOf a0 a1 a2 M2 (fun x13 M12 => K x13 M12) else if a2 = 4 then kd M2 a0 = some (.inl 1) ∧ f_X1_lettersOf a0 a1 a2 M2 (fun x17 M16 => K x17 M16) else if a2 = 5 then kd M2 a0 = some (.inl 1) ∧ f_X1_lettersOf a0 a1 a2 M2 (fun x21 M20 => K x21 M20) else ∀ n22, sz M2 ≤ n22 → KX (sz M2) "java/util/NoSuchElementException" (sZ M2 n22)) KX
set_option maxHeartbeats 4000000 in
theorem m_X1_person {l : Launch} (hl : l.stackTraces = false) {G : gG} {a0 : Nat} {a1 : Int32} {a2 : Int32} {M : gM} {K : Int32 → gM → Prop} {KX : Addr → String → gM → Prop} (hf : f_X1_person a0 a1 a2 M K KX) : gMet l G yX1_person (ws_ yX1_person cX1_person 4 (some Jvm.ClassFile.FieldType.int)) ({ frames := 32, cells := 2, slots := 12, locals := 715 }) M [.ref a0, .int a1, .int a2] (kI K) KX := by
  refine gm_of hl (ret := (some Jvm.ClassFile.FieldType.int)) rfl (Nat.le_of_ble_eq_true rfl) (fun X h hq => ?_)
  have h : hX l G X cX1_person 4 "GlacierMail" 32 715 := h
  have hf := hf
  show V l G X 2 12 M 0 [(0, .ref a0), (1, .int a1), (2, .int a2)] []
  unfold f_X1_person at hf
  refine r_aload_n h 0 dX1_person_0 rfl rfl ?_
  refine r_iload_n h 1 dX1_person_1 rfl rfl ?_
  obtain ⟨k1, hf⟩ := hf
  refine c1231 hl h dX1_person_2 k1 hf (Nat.le_of_ble_eq_true rfl) (by decide) (by decide) (by decide) (by decide) (fun b3 M2 hf => ?_) (fun q9 E9 M9 hf => r_out h hq hf)
  refine r_astore_n (lv' := [(3, .ref b3), (0, .ref a0), (1, .int a1), (2, .int a2)]) h dX1_person_5 rfl (by decide) rfl ?_
  refine r_iload_n h 3 dX1_person_6 rfl rfl ?_
  by_cases c4 : a2 = 0
  · have hf := ite_t c4 hf
    refine r_tableIn (off := 37) (tgt := 44) h dX1_person_7 (by rw [c4]; decide) (by rw [c4]; decide) (by rw [c4]; rfl) (by decide) ?_
    refine r_aload_n h 0 dX1_person_44 rfl rfl ?_
    obtain ⟨k5, hf⟩ := hf
    refine g260 h dX1_person_45 k5 ?_
    exact r_ireturn h hq dX1_person_48 ⟨_, rfl, hf⟩
  have hf := ite_f c4 hf
  by_cases c6 : a2 = 1
  · have hf := ite_t c6 hf
    refine r_tableIn (off := 42) (tgt := 49) h dX1_person_7 (by rw [c6]; decide) (by rw [c6]; decide) (by rw [c6]; rfl) (by decide) ?_
    refine r_aload_n h 0 dX1_person_49 rfl rfl ?_
    obtain ⟨k7, hf⟩ := hf
    refine g263 h dX1_person_50 k7 ?_
    exact r_ireturn h hq dX1_person_53 ⟨_, rfl, hf⟩
  have hf := ite_f c6 hf
  by_cases c8 : a2 = 2
  · have hf := ite_t c8 hf
    refine r_tableIn (off := 47) (tgt := 54) h dX1_person_7 (by rw [c8]; decide) (by rw [c8]; decide) (by rw [c8]; rfl) (by decide) ?_
    refine r_aload_n h 0 dX1_person_54 rfl rfl ?_
    obtain ⟨k9, hf⟩ := hf
    refine g266 h dX1_person_55 k9 ?_
    exact r_ireturn h hq dX1_person_58 ⟨_, rfl, hf⟩
  have hf := ite_f c8 hf
  by_cases c10 : a2 = 3
  · have hf := ite_t c10 hf
    refine r_tableIn (off := 52) (tgt := 59) h dX1_person_7 (by rw [c10]; decide) (by rw [c10]; decide) (by rw [c10]; rfl) (by decide) ?_
    refine r_aload_n h 1 dX1_person_59 rfl rfl ?_
    refine r_iload_n h 2 dX1_person_60 rfl rfl ?_
    refine r_iload_n h 3 dX1_person_61 rfl rfl ?_
    obtain ⟨k11, hf⟩ := hf
    refine c1235 hl h dX1_person_62 k11 hf (Nat.le_of_ble_eq_true rfl) (by decide) (by decide) (fun x13 M12 hf => ?_)
    exact r_ireturn h hq dX1_person_65 ⟨_, rfl, hf⟩
  have hf := ite_f c10 hf
  by_cases c14 : a2 = 4
  · have hf := ite_t c14 hf
    refine r_tableIn (off := 52) (tgt := 59) h dX1_person_7 (by rw [c14]; decide) (by rw [c14]; decide) (by rw [c14]; rfl) (by decide) ?_
    refine r_aload_n h 1 dX1_person_59 rfl rfl ?_
    refine r_iload_n h 2 dX1_person_60 rfl rfl ?_
    refine r_iload_n h 3 dX1_person_61 rfl rfl ?_
    obtain ⟨k15, hf⟩ := hf
    refine c1235 hl h dX1_person_62 k15 hf (Nat.le_of_ble_eq_true rfl) (by decide) (by decide) (fun x17 M16 hf => ?_)
    exact r_ireturn h hq dX1_person_65 ⟨_, rfl, hf⟩
  have hf := ite_f c14 hf
  by_cases c18 : a2 = 5
  · have hf := ite_t c18 hf
    refine r_tableIn (off := 52) (tgt := 59) h dX1_person_7 (by rw [c18]; decide) (by rw [c18]; decide) (by rw [c18]; rfl) (by decide) ?_
    refine r_aload_n h 1 dX1_person_59 rfl rfl ?_
    refine r_iload_n h 2 dX1_person_60 rfl rfl ?_
    refine r_iload_n h 3 dX1_person_61 rfl rfl ?_
    obtain ⟨k19, hf⟩ := hf
    refine c1235 hl h dX1_person_62 k19 hf (Nat.le_of_ble_eq_true rfl) (by decide) (by decide) (fun x21 M20 hf => ?_)
    exact r_ireturn h hq dX1_person_65 ⟨_, rfl, hf⟩
  have hf := ite_f c18 hf
  refine r_tableOut (tgt := 66) h dX1_person_7 (gSw0_6 c4 c6 c8 c10 c14 c18) (by decide) ?_
  exact x1239 h hq dX1_person_66 dX1_person_69 dX1_person_70 dX1_person_73 (by decide) (by decide) (by decide) (by decide) (Nat.le_of_ble_eq_true rfl) (fun n22 hn => hf n22 hn)
theorem c1227 {l : Launch} {G : gG} {X : gX} {cc : ByteArray} {nL F L bc bs pc : Nat} {M : gM} {lv : List (Nat × Value)} {rest : List Value} {a0 : Nat} {a1 : Int32} {a2 : Int32} {K : Int32 → gM → Prop} {KX : Addr → String → gM → Prop} (hl : l.stackTraces = false) (h : hX l G X cc nL "GlacierMailLaw" F L) (d : decode cc pc = .ok (.invokevirtual 34, 3)) (hk : kd M a0 = some (.inl 1)) (hf : f_X1_person a0 a1 a2 M K KX) (hst : (rest.map fun v => v.category).sum ≤ 8) (hF : 33 ≤ F) (hL : 738 ≤ L) (h1 : 2 ≤ bc) (h2 : 12 ≤ bs) (kk : ∀ x M1, K x M1 → V l G X (bc - 2) (bs - 12) M1 (pc + 3) lv (.int x :: rest)) (kx : ∀ q E M1, KX q E M1 → VX l G X (bc - 2) (bs - 12) M1 pc lv q E) : V l G X bc bs M pc lv (.int a2 :: .int a1 :: .ref a0 :: rest) := r_callV (n := 2) (As := [.int a1, .int a2]) h (m_X1_person hl hf) 1 rfl hk rfl ⟨by decide, by decide, by decide +kernel⟩ d q1227 q1228 q1229 q135 q1230 rfl rfl hst hF hL h1 h2 (kI_go kk) kx
