def f_X10_watch (a0 : Nat) (a1 : Int32) (a2 : Int32) (M : gM) (K : Int32 → gM → Prop) : Prop :=
  ∀ P32 : Nat → Int32 → Int32 → Int32 → Nat → gM → Prop,
  (∀ (v0 : Nat) (v1 : Int32) (v2 : Int32) (s0 : Int32) (s1 : Nat) (M : gM), (kd M s1 = some (.inl 10) ∧ f_X10_throwsIf s1 s0 1 M (fun x14 M13 => if x14 = 0 then kd M13 v0 = some (.inl 10) ∧ f_X10_remembers v0 M13 (fun M17 => kd M17 v0 = some (.inl 10) ∧ f_X10_of v0 v1 2 M17 (fun x20 M19 => kd M19 v0 = some (.inl 10) ∧ ∃ b22, rv M19 v0 1 = some b22 ∧ inA M19 b22 0 (((95 : Int32) + ((3 : Int32) * v1)) + 2) ∧ ∀ M25, M25 = sI M19 b22 (ix (((95 : Int32) + ((3 : Int32) * v1)) + 2)) v2 → K x20 M25)) else K 0 M13)) → P32 v0 v1 v2 s0 s1 M) →
  kd M a0 = some (.inl 10) ∧ ∀ M2, M2 = sI M a0 0 0 → kd M2 a0 = some (.inl 10) ∧ f_X10_noPerson a0 a1 M2 (fun x5 M4 => if x5 = 0 then if a2 = (-1) then P32 a0 a1 a2 0 a0 M4 else kd M4 a0 = some (.inl 10) ∧ f_X10_noLane a0 a2 M4 (fun x10 M9 => if x10 = 0 then P32 a0 a1 a2 0 a0 M9 else P32 a0 a1 a2 1 a0 M9) else P32 a0 a1 a2 1 a0 M4)
set_option maxHeartbeats 4000000 in
theorem m_X10_watch {l : Launch} (hl : l.stackTraces = false) {G : gG} {a0 : Nat} {a1 : Int32} {a2 : Int32} {M : gM} {K : Int32 → gM → Prop} (hf : f_X10_watch a0 a1 a2 M K) : gMet l G yX10_watch (ws_ yX10_watch cX10_watch 4 (some Jvm.ClassFile.FieldType.int)) ({ frames := 2, cells := 0, slots := 0, locals := 43 }) M [.ref a0, .int a1, .int a2] (kI K) kN := by
  refine gm_of hl (ret := (some Jvm.ClassFile.FieldType.int)) rfl (Nat.le_of_ble_eq_true rfl) (fun X h hq => ?_)
  have h : hX l G X cX10_watch 4 "GlacierMailModel" 2 43 := h
  have hf := hf
  show V l G X 0 0 M 0 [(0, .ref a0), (1, .int a1), (2, .int a2)] []
  have hf := hf
    (fun v0 v1 v2 s0 s1 M => V l G X 0 0 M 32 [(0, .ref v0), (1, .int v1), (2, .int v2)] [.int s0, .ref s1])
    (by
      intro v0 v1 v2 s0 s1 M hf
      show V l G X 0 0 M 32 [(0, .ref v0), (1, .int v1), (2, .int v2)] [.int s0, .ref s1]
      refine r_iconst (v := 1) h dX10_watch_32 (by decide) ?_
      obtain ⟨k12, hf⟩ := hf
      refine c1929 hl h dX10_watch_33 k12 hf (Nat.le_of_ble_eq_true rfl) (by decide) (by decide) (fun x14 M13 hf => ?_)
      refine r_if_eq (tgt := 41) h dX10_watch_36 (by decide) (fun c15 => ?_) (fun c15 => ?_)
      · have hf := ite_t c15 hf
        refine r_aload_n h 0 dX10_watch_41 rfl rfl ?_
        obtain ⟨k16, hf⟩ := hf
        refine c2065 hl h dX10_watch_42 k16 hf (Nat.le_of_ble_eq_true rfl) (by decide) (by decide) (fun M17 hf => ?_)
        refine r_aload_n h 0 dX10_watch_45 rfl rfl ?_
        refine r_iload_n h 1 dX10_watch_46 rfl rfl ?_
        refine r_iconst (v := 2) h dX10_watch_47 (by decide) ?_
        obtain ⟨k18, hf⟩ := hf
        refine c1997 hl h dX10_watch_48 k18 hf (Nat.le_of_ble_eq_true rfl) (by decide) (by decide) (fun x20 M19 hf => ?_)
        refine r_istore_n (lv' := [(3, .int x20), (0, .ref v0), (1, .int v1), (2, .int v2)]) h dX10_watch_51 rfl (by decide) rfl ?_
        refine r_aload_n h 1 dX10_watch_52 rfl rfl ?_
        obtain ⟨k21, hf⟩ := hf
        obtain ⟨b22, e23, hf⟩ := hf
        refine g1598 h dX10_watch_53 k21 e23 ?_
        refine r_bipush (v := 95) h dX10_watch_56 (by decide) ?_
        refine r_iconst (v := 3) h dX10_watch_58 (by decide) ?_
        refine r_iload_n h 2 dX10_watch_59 rfl rfl ?_
        refine r_imul h dX10_watch_60 ?_
        refine r_iadd h dX10_watch_61 ?_
        refine r_iconst (v := 2) h dX10_watch_62 (by decide) ?_
        refine r_iadd h dX10_watch_63 ?_
        refine r_iload_n h 3 dX10_watch_64 rfl rfl ?_
        obtain ⟨j24, hf⟩ := hf
        refine r_iastore h dX10_watch_65 j24 ?_
        refine r_goW (fun M25 eM25 => ?_)
        have hf := hf M25 eM25
        refine r_iload_n h 0 dX10_watch_66 rfl rfl ?_
        exact r_ireturn h hq dX10_watch_67 ⟨_, rfl, hf⟩
      · have hf := ite_f c15 hf
        refine r_iconst (v := 0) h dX10_watch_39 (by decide) ?_
        exact r_ireturn h hq dX10_watch_40 ⟨_, rfl, hf⟩)
  refine r_aload_n h 0 dX10_watch_0 rfl rfl ?_
  refine r_iconst (v := 0) h dX10_watch_1 (by decide) ?_
  obtain ⟨k1, hf⟩ := hf
  refine p1597 h dX10_watch_2 k1 ?_
  refine r_goW (fun M2 eM2 => ?_)
  have hf := hf M2 eM2
  refine r_aload_n h 0 dX10_watch_5 rfl rfl ?_
  refine r_aload_n h 0 dX10_watch_6 rfl rfl ?_
  refine r_iload_n h 1 dX10_watch_7 rfl rfl ?_
  obtain ⟨k3, hf⟩ := hf
  refine c1993 hl h dX10_watch_8 k3 hf (Nat.le_of_ble_eq_true rfl) (by decide) (by decide) (fun x5 M4 hf => ?_)
  refine r_if_ne (tgt := 27) h dX10_watch_11 (by decide) (fun c6 => ?_) (fun c6 => ?_)
  · have hf := ite_f c6 hf
    refine r_iconst (v := 1) h dX10_watch_27 (by decide) ?_
    refine r_goto (tgt := 32) h dX10_watch_28 (by decide) ?_
    exact V.sub [0, 1, 2] rfl hf
  · have hf := ite_t c6 hf
    refine r_iload_n h 2 dX10_watch_14 rfl rfl ?_
    refine r_iconst (v := (-1)) h dX10_watch_15 (by decide) ?_
    refine r_icmp_eq (tgt := 31) h dX10_watch_16 (by decide) (fun c7 => ?_) (fun c7 => ?_)
    · have hf := ite_t c7 hf
      refine r_iconst (v := 0) h dX10_watch_31 (by decide) ?_
      exact V.sub [0, 1, 2] rfl hf
    · have hf := ite_f c7 hf
      refine r_aload_n h 0 dX10_watch_19 rfl rfl ?_
      refine r_iload_n h 2 dX10_watch_20 rfl rfl ?_
      obtain ⟨k8, hf⟩ := hf
      refine c1951 hl h dX10_watch_21 k8 hf (Nat.le_of_ble_eq_true rfl) (by decide) (by decide) (fun x10 M9 hf => ?_)
      refine r_if_eq (tgt := 31) h dX10_watch_24 (by decide) (fun c11 => ?_) (fun c11 => ?_)
      · have hf := ite_t c11 hf
        refine r_iconst (v := 0) h dX10_watch_31 (by decide) ?_
        exact V.sub [0, 1, 2] rfl hf
      · have hf := ite_f c11 hf
        refine r_iconst (v := 1) h dX10_watch_27 (by decide) ?_
        refine r_goto (tgt := 32) h dX10_watch_28 (by decide) ?_
        exact V.sub [0, 1, 2] rfl hf
theorem c2069 {l : Launch} {G : gG} {X : gX} {cc : ByteArray} {nL F L bc bs pc : Nat} {M : gM} {lv : List (Nat × Value)} {rest : List Value} {a0 : Nat} {a1 : Int32} {a2 : Int32} {K : Int32 → gM → Prop} (hl : l.stackTraces = false) (h : hX l G X cc nL "GlacierMailLaw" F L) (d : decode cc pc = .ok (.invokevirtual 194, 3)) (hk : kd M a0 = some (.inl 10)) (hf : f_X10_watch a0 a1 a2 M K) (hst : (rest.map fun v => v.category).sum ≤ 8) (hF : 3 ≤ F) (hL : 66 ≤ L) (kk : ∀ x M1, K x M1 → V l G X bc bs M1 (pc + 3) lv (.int x :: rest)) : V l G X bc bs M pc lv (.int a2 :: .int a1 :: .ref a0 :: rest) := r_callV (n := 2) (As := [.int a1, .int a2]) h (m_X10_watch hl hf) 10 rfl hk rfl ⟨by decide, by decide, by decide +kernel⟩ d q2069 q2070 q2071 q147 q2072 rfl rfl hst hF hL (Nat.zero_le _) (Nat.zero_le _) (kI_go kk) kN_go
def f_X10_opens (a0 : Nat) (a1 : Int32) (a2 : Int32) (M : gM) (K : gM → Prop) : Prop :=
  kd M a0 = some (.inl 10) ∧ f_X10_setsLetter a0 a1 5 a2 M (fun M2 => kd M2 a0 = some (.inl 10) ∧ f_X10_now a0 M2 (fun x5 M4 => kd M4 a0 = some (.inl 10) ∧ f_X10_setsLetter a0 a1 6 x5 M4 (fun M7 => kd M7 a0 = some (.inl 10) ∧ ∃ b9, rv M7 a0 1 = some b9 ∧ inA M7 b9 0 14 ∧ ∃ b12, rv M7 a0 1 = some b12 ∧ f_X10_now a0 M7 (fun x15 M14 => inA M14 b12 0 ((323 : Int32) + ((3 : Int32) * (iv M7 b9 (ix 14)))) ∧ ∀ M17, M17 = sI M14 b12 (ix ((323 : Int32) + ((3 : Int32) * (iv M7 b9 (ix 14))))) x15 → kd M17 a0 = some (.inl 10) ∧ ∃ b19, rv M17 a0 1 = some b19 ∧ inA M17 b19 0 (((323 : Int32) + ((3 : Int32) * (iv M7 b9 (ix 14)))) + 1) ∧ ∀ M22, M22 = sI M17 b19 (ix (((323 : Int32) + ((3 : Int32) * (iv M7 b9 (ix 14)))) + 1)) a1 → kd M22 a0 = some (.inl 10) ∧ ∃ b24, rv M22 a0 1 = some b24 ∧ inA M22 b24 0 (((323 : Int32) + ((3 : Int32) * (iv M7 b9 (ix 14)))) + 2) ∧ ∀ M27, M27 = sI M22 b24 (ix (((323 : Int32) + ((3 : Int32) * (iv M7 b9 (ix 14)))) + 2)) a2 → kd M27 a0 = some (.inl 10) ∧ ∃ b29, rv M27 a0 1 = some b29 ∧ inA M27 b29 0 14 ∧ inA M27 b29 0 14 ∧ ∀ M33, M33 = sI M27 b29 (ix 14) ((iv M27 b29 (ix 14)) + 1) → K M33))))
set_option maxHeartbeats 4000000 in
theorem m_X10_opens {l : Launch} (hl : l.stackTraces = false) {G : gG} {a0 : Nat} {a1 : Int32} {a2 : Int32} {M : gM} {K : gM → Prop} (hf : f_X10_opens a0 a1 a2 M K) : gMet l G yX10_opens (ws_ yX10_opens cX10_opens 4 none) ({ frames := 1, cells := 0, slots := 0, locals := 23 }) M [.ref a0, .int a1, .int a2] (kV K) kN := by
  refine gm_of hl (ret := none) rfl (Nat.le_of_ble_eq_true rfl) (fun X h hq => ?_)
  have h : hX l G X cX10_opens 4 "GlacierMailModel" 1 23 := h
  have hf := hf
  show V l G X 0 0 M 0 [(0, .ref a0), (1, .int a1), (2, .int a2)] []
  unfold f_X10_opens at hf
  refine r_aload_n h 0 dX10_opens_0 rfl rfl ?_
  refine r_iload_n h 1 dX10_opens_1 rfl rfl ?_
  refine r_iconst (v := 5) h dX10_opens_2 (by decide) ?_
  refine r_iload_n h 2 dX10_opens_3 rfl rfl ?_
  obtain ⟨k1, hf⟩ := hf
  refine c1870 hl h dX10_opens_4 k1 hf (Nat.le_of_ble_eq_true rfl) (by decide) (by decide) (fun M2 hf => ?_)
  refine r_aload_n h 0 dX10_opens_7 rfl rfl ?_
  refine r_iload_n h 1 dX10_opens_8 rfl rfl ?_
  refine r_bipush (v := 6) h dX10_opens_9 (by decide) ?_
  refine r_aload_n h 0 dX10_opens_11 rfl rfl ?_
  obtain ⟨k3, hf⟩ := hf
  refine c1843 hl h dX10_opens_12 k3 hf (Nat.le_of_ble_eq_true rfl) (by decide) (by decide) (fun x5 M4 hf => ?_)
  obtain ⟨k6, hf⟩ := hf
  refine c1870 hl h dX10_opens_15 k6 hf (Nat.le_of_ble_eq_true rfl) (by decide) (by decide) (fun M7 hf => ?_)
  refine r_sipush (v := 323) h dX10_opens_18 (by decide) ?_
  refine r_iconst (v := 3) h dX10_opens_21 (by decide) ?_
  refine r_aload_n h 0 dX10_opens_22 rfl rfl ?_
  obtain ⟨k8, hf⟩ := hf
  obtain ⟨b9, e10, hf⟩ := hf
  refine g1598 h dX10_opens_23 k8 e10 ?_
  refine r_bipush (v := 14) h dX10_opens_26 (by decide) ?_
  obtain ⟨j11, hf⟩ := hf
  refine r_iaload h dX10_opens_28 j11 ?_
  refine r_imul h dX10_opens_29 ?_
  refine r_iadd h dX10_opens_30 ?_
  refine r_istore_n (lv' := [(3, .int ((323 : Int32) + ((3 : Int32) * (iv M7 b9 (ix 14))))), (0, .ref a0), (1, .int a1), (2, .int a2)]) h dX10_opens_31 rfl (by decide) rfl ?_
  refine r_aload_n h 1 dX10_opens_32 rfl rfl ?_
  obtain ⟨b12, e13, hf⟩ := hf
  refine g1598 h dX10_opens_33 k8 e13 ?_
  refine r_iload_n h 0 dX10_opens_36 rfl rfl ?_
  refine r_aload_n h 1 dX10_opens_37 rfl rfl ?_
  refine c1843 hl h dX10_opens_38 k8 hf (Nat.le_of_ble_eq_true rfl) (by decide) (by decide) (fun x15 M14 hf => ?_)
  obtain ⟨j16, hf⟩ := hf
  refine r_iastore h dX10_opens_41 j16 ?_
  refine r_goW (fun M17 eM17 => ?_)
  have hf := hf M17 eM17
  refine r_aload_n h 1 dX10_opens_42 rfl rfl ?_
  obtain ⟨k18, hf⟩ := hf
  obtain ⟨b19, e20, hf⟩ := hf
  refine g1598 h dX10_opens_43 k18 e20 ?_
  refine r_iload_n h 0 dX10_opens_46 rfl rfl ?_
  refine r_iconst (v := 1) h dX10_opens_47 (by decide) ?_
  refine r_iadd h dX10_opens_48 ?_
  refine r_iload_n h 2 dX10_opens_49 rfl rfl ?_
  obtain ⟨j21, hf⟩ := hf
  refine r_iastore h dX10_opens_50 j21 ?_
  refine r_goW (fun M22 eM22 => ?_)
  have hf := hf M22 eM22
  refine r_aload_n h 1 dX10_opens_51 rfl rfl ?_
  obtain ⟨k23, hf⟩ := hf
  obtain ⟨b24, e25, hf⟩ := hf
  refine g1598 h dX10_opens_52 k23 e25 ?_
  refine r_iload_n h 0 dX10_opens_55 rfl rfl ?_
  refine r_iconst (v := 2) h dX10_opens_56 (by decide) ?_
  refine r_iadd h dX10_opens_57 ?_
  refine r_iload_n h 3 dX10_opens_58 rfl rfl ?_
  obtain ⟨j26, hf⟩ := hf
  refine r_iastore h dX10_opens_59 j26 ?_
  refine r_goW (fun M27 eM27 => ?_)
  have hf := hf M27 eM27
  refine r_aload_n h 1 dX10_opens_60 rfl rfl ?_
  obtain ⟨k28, hf⟩ := hf
  obtain ⟨b29, e30, hf⟩ := hf
  refine g1598 h dX10_opens_61 k28 e30 ?_
  refine r_bipush (v := 14) h dX10_opens_64 (by decide) ?_
  refine r_dup2 h dX10_opens_66 rfl rfl ?_
  obtain ⟨j31, hf⟩ := hf
  refine r_iaload h dX10_opens_67 j31 ?_
  refine r_iconst (v := 1) h dX10_opens_68 (by decide) ?_
  refine r_iadd h dX10_opens_69 ?_
  obtain ⟨j32, hf⟩ := hf
  refine r_iastore h dX10_opens_70 j32 ?_
  refine r_goW (fun M33 eM33 => ?_)
  have hf := hf M33 eM33
  exact r_return h hq dX10_opens_71 ⟨rfl, hf⟩
theorem c2077 {l : Launch} {G : gG} {X : gX} {cc : ByteArray} {nL F L bc bs pc : Nat} {M : gM} {lv : List (Nat × Value)} {rest : List Value} {a0 : Nat} {a1 : Int32} {a2 : Int32} {K : gM → Prop} (hl : l.stackTraces = false) (h : hX l G X cc nL "GlacierMailModel" F L) (d : decode cc pc = .ok (.invokevirtual 414, 3)) (hk : kd M a0 = some (.inl 10)) (hf : f_X10_opens a0 a1 a2 M K) (hst : (rest.map fun v => v.category).sum ≤ 8) (hF : 2 ≤ F) (hL : 46 ≤ L) (kk : ∀ M1, K M1 → V l G X bc bs M1 (pc + 3) lv rest) : V l G X bc bs M pc lv (.int a2 :: .int a1 :: .ref a0 :: rest) := r_callV (n := 2) (As := [.int a1, .int a2]) h (m_X10_opens hl hf) 10 rfl hk rfl ⟨by decide, by decide, by decide +kernel⟩ d q2077 q2079 qs115 q147 q2080 rfl rfl hst hF hL (Nat.zero_le _) (Nat.zero_le _) (kV_go kk) kN_go
def f_X10_open (a0 : Nat) (a1 : Int32) (M : gM) (K : Int32 → gM → Prop) : Prop :=
  ∀ P32 : Nat → Int32 → Int32 → Nat → gM → Prop,
  (∀ (v0 : Nat) (v1 : Int32) (s0 : Int32) (s1 : Nat) (M : gM), (kd M s1 = some (.inl 10) ∧ f_X10_throwsIf s1 s0 2 M (fun x16 M15 => if x16 = 0 then kd M15 v0 = some (.inl 10) ∧ f_X10_remembers v0 M15 (fun M19 => kd M19 v0 = some (.inl 10) ∧ f_X10_ofLetter v0 v1 1 M19 (fun x22 M21 => kd M21 v0 = some (.inl 10) ∧ f_X10_opens v0 v1 x22 M21 (fun M24 => kd M24 v0 = some (.inl 10) ∧ f_X10_now v0 M24 (fun x27 M26 => kd M26 v0 = some (.inl 10) ∧ f_X10_ofLetter v0 v1 3 M26 (fun x30 M29 => K (x27 - x30) M29))))) else K 0 M15)) → P32 v0 v1 s0 s1 M) →
  kd M a0 = some (.inl 10) ∧ ∀ M2, M2 = sI M a0 0 0 → kd M2 a0 = some (.inl 10) ∧ f_X10_noLetter a0 a1 M2 (fun x5 M4 => kd M4 a0 = some (.inl 10) ∧ f_X10_throwsIf a0 x5 1 M4 (fun x8 M7 => if x8 = 0 then kd M7 a0 = some (.inl 10) ∧ f_X10_isWaiting a0 a1 M7 (fun x12 M11 => if x12 = 0 then P32 a0 a1 1 a0 M11 else P32 a0 a1 0 a0 M11) else K 0 M7))
set_option maxHeartbeats 4000000 in
theorem m_X10_open {l : Launch} (hl : l.stackTraces = false) {G : gG} {a0 : Nat} {a1 : Int32} {M : gM} {K : Int32 → gM → Prop} (hf : f_X10_open a0 a1 M K) : gMet l G yX10_open (ws_ yX10_open cX10_open 2 (some Jvm.ClassFile.FieldType.int)) ({ frames := 9, cells := 0, slots := 0, locals := 211 }) M [.ref a0, .int a1] (kI K) kN := by
  refine gm_of hl (ret := (some Jvm.ClassFile.FieldType.int)) rfl (Nat.le_of_ble_eq_true rfl) (fun X h hq => ?_)
  have h : hX l G X cX10_open 2 "GlacierMailModel" 9 211 := h
  have hf := hf
  show V l G X 0 0 M 0 [(0, .ref a0), (1, .int a1)] []
  have hf := hf
    (fun v0 v1 s0 s1 M => V l G X 0 0 M 32 [(0, .ref v0), (1, .int v1)] [.int s0, .ref s1])
    (by
      intro v0 v1 s0 s1 M hf
      show V l G X 0 0 M 32 [(0, .ref v0), (1, .int v1)] [.int s0, .ref s1]
      refine r_iconst (v := 2) h dX10_open_32 (by decide) ?_
      obtain ⟨k14, hf⟩ := hf
      refine c1929 hl h dX10_open_33 k14 hf (Nat.le_of_ble_eq_true rfl) (by decide) (by decide) (fun x16 M15 hf => ?_)
      refine r_if_eq (tgt := 41) h dX10_open_36 (by decide) (fun c17 => ?_) (fun c17 => ?_)
      · have hf := ite_t c17 hf
        refine r_aload_n h 0 dX10_open_41 rfl rfl ?_
        obtain ⟨k18, hf⟩ := hf
        refine c2065 hl h dX10_open_42 k18 hf (Nat.le_of_ble_eq_true rfl) (by decide) (by decide) (fun M19 hf => ?_)
        refine r_aload_n h 0 dX10_open_45 rfl rfl ?_
        refine r_iload_n h 1 dX10_open_46 rfl rfl ?_
        refine r_aload_n h 0 dX10_open_47 rfl rfl ?_
        refine r_iload_n h 1 dX10_open_48 rfl rfl ?_
        refine r_iconst (v := 1) h dX10_open_49 (by decide) ?_
        obtain ⟨k20, hf⟩ := hf
        refine c2005 hl h dX10_open_50 k20 hf (Nat.le_of_ble_eq_true rfl) (by decide) (by decide) (fun x22 M21 hf => ?_)
        obtain ⟨k23, hf⟩ := hf
        refine c2077 hl h dX10_open_53 k23 hf (Nat.le_of_ble_eq_true rfl) (by decide) (by decide) (fun M24 hf => ?_)
        refine r_aload_n h 0 dX10_open_56 rfl rfl ?_
        obtain ⟨k25, hf⟩ := hf
        refine c1843 hl h dX10_open_57 k25 hf (Nat.le_of_ble_eq_true rfl) (by decide) (by decide) (fun x27 M26 hf => ?_)
        refine r_aload_n h 0 dX10_open_60 rfl rfl ?_
        refine r_iload_n h 1 dX10_open_61 rfl rfl ?_
        refine r_iconst (v := 3) h dX10_open_62 (by decide) ?_
        obtain ⟨k28, hf⟩ := hf
        refine c2005 hl h dX10_open_63 k28 hf (Nat.le_of_ble_eq_true rfl) (by decide) (by decide) (fun x30 M29 hf => ?_)
        refine r_isub h dX10_open_66 ?_
        exact r_ireturn h hq dX10_open_67 ⟨_, rfl, hf⟩
      · have hf := ite_f c17 hf
        refine r_iconst (v := 0) h dX10_open_39 (by decide) ?_
        exact r_ireturn h hq dX10_open_40 ⟨_, rfl, hf⟩)
  refine r_aload_n h 0 dX10_open_0 rfl rfl ?_
  refine r_iconst (v := 0) h dX10_open_1 (by decide) ?_
  obtain ⟨k1, hf⟩ := hf
  refine p1597 h dX10_open_2 k1 ?_
  refine r_goW (fun M2 eM2 => ?_)
  have hf := hf M2 eM2
  refine r_aload_n h 0 dX10_open_5 rfl rfl ?_
  refine r_aload_n h 0 dX10_open_6 rfl rfl ?_
  refine r_iload_n h 1 dX10_open_7 rfl rfl ?_
  obtain ⟨k3, hf⟩ := hf
  refine c2037 hl h dX10_open_8 k3 hf (Nat.le_of_ble_eq_true rfl) (by decide) (by decide) (fun x5 M4 hf => ?_)
  refine r_iconst (v := 1) h dX10_open_11 (by decide) ?_
  obtain ⟨k6, hf⟩ := hf
  refine c1929 hl h dX10_open_12 k6 hf (Nat.le_of_ble_eq_true rfl) (by decide) (by decide) (fun x8 M7 hf => ?_)
  refine r_if_ne (tgt := 39) h dX10_open_15 (by decide) (fun c9 => ?_) (fun c9 => ?_)
  · have hf := ite_f c9 hf
    refine r_iconst (v := 0) h dX10_open_39 (by decide) ?_
    exact r_ireturn h hq dX10_open_40 ⟨_, rfl, hf⟩
  · have hf := ite_t c9 hf
    refine r_aload_n h 0 dX10_open_18 rfl rfl ?_
    refine r_aload_n h 0 dX10_open_19 rfl rfl ?_
    refine r_iload_n h 1 dX10_open_20 rfl rfl ?_
    obtain ⟨k10, hf⟩ := hf
    refine c2009 hl h dX10_open_21 k10 hf (Nat.le_of_ble_eq_true rfl) (by decide) (by decide) (fun x12 M11 hf => ?_)
    refine r_if_ne (tgt := 31) h dX10_open_24 (by decide) (fun c13 => ?_) (fun c13 => ?_)
    · have hf := ite_f c13 hf
      refine r_iconst (v := 0) h dX10_open_31 (by decide) ?_
      exact V.sub [0, 1] rfl hf
    · have hf := ite_t c13 hf
      refine r_iconst (v := 1) h dX10_open_27 (by decide) ?_
      refine r_goto (tgt := 32) h dX10_open_28 (by decide) ?_
      exact V.sub [0, 1] rfl hf
theorem c2073 {l : Launch} {G : gG} {X : gX} {cc : ByteArray} {nL F L bc bs pc : Nat} {M : gM} {lv : List (Nat × Value)} {rest : List Value} {a0 : Nat} {a1 : Int32} {K : Int32 → gM → Prop} (hl : l.stackTraces = false) (h : hX l G X cc nL "GlacierMailLaw" F L) (d : decode cc pc = .ok (.invokevirtual 197, 3)) (hk : kd M a0 = some (.inl 10)) (hf : f_X10_open a0 a1 M K) (hst : (rest.map fun v => v.category).sum ≤ 8) (hF : 10 ≤ F) (hL : 232 ≤ L) (kk : ∀ x M1, K x M1 → V l G X bc bs M1 (pc + 3) lv (.int x :: rest)) : V l G X bc bs M pc lv (.int a1 :: .ref a0 :: rest) := r_callV (n := 1) (As := [.int a1]) h (m_X10_open hl hf) 10 rfl hk rfl ⟨by decide, by decide, by decide +kernel⟩ d q2073 q2074 q2075 q147 q2076 rfl rfl hst hF hL (Nat.zero_le _) (Nat.zero_le _) (kI_go kk) kN_go
def f_X10_mayOpen (a0 : Nat) (a1 : Int32) (a2 : Int32) (M : gM) (K : Int32 → gM → Prop) : Prop :=
  kd M a0 = some (.inl 10) ∧ f_X10_ofLetter a0 a2 2 M (fun x3 M2 => kd M2 a0 = some (.inl 10) ∧ ∀ M5, M5 = sI M2 a0 17 x3 → kd M5 a0 = some (.inl 10) ∧ f_X10_lip a0 M5 (fun x8 M7 => kd M7 a0 = some (.inl 10) ∧ ∀ M10, M10 = sI M7 a0 18 x8 → kd M10 a0 = some (.inl 10) ∧ f_X10_now a0 M10 (fun x13 M12 => kd M12 a0 = some (.inl 10) ∧ ∀ M15, M15 = sI M12 a0 19 x13 → kd M15 a0 = some (.inl 10) ∧ ∀ M17, M17 = sI M15 a0 20 0 → kd M17 a0 = some (.inl 10) ∧ ∀ M19, M19 = sI M17 a0 21 a1 → kd M19 a0 = some (.inl 10) ∧ f_X10_now a0 M19 (fun x22 M21 => kd M21 a0 = some (.inl 10) ∧ f_X10_ofLetter a0 a2 3 M21 (fun x25 M24 => kd M24 a0 = some (.inl 10) ∧ ∀ M27, M27 = sI M24 a0 22 (x22 - x25) → kd M27 a0 = some (.inl 10) ∧ ∃ b29, rv M27 a0 28 = some b29 ∧ inA M27 b29 0 (iv M27 a0 29) ∧ ∀ M32, M32 = sI M27 a0 23 (iv M27 b29 (ix (iv M27 a0 29))) → kd M32 a0 = some (.inl 10) ∧ f_X10_sumOf a0 2 M32 (fun x35 M34 => if x35 ≤ 0 then K 0 M34 else K 1 M34))))))
set_option maxHeartbeats 4000000 in
theorem m_X10_mayOpen {l : Launch} (hl : l.stackTraces = false) {G : gG} {a0 : Nat} {a1 : Int32} {a2 : Int32} {M : gM} {K : Int32 → gM → Prop} (hf : f_X10_mayOpen a0 a1 a2 M K) : gMet l G yX10_mayOpen (ws_ yX10_mayOpen cX10_mayOpen 3 (some Jvm.ClassFile.FieldType.boolean)) ({ frames := 4, cells := 0, slots := 0, locals := 93 }) M [.ref a0, .int a1, .int a2] (kI K) kN := by
  refine gm_of hl (ret := (some Jvm.ClassFile.FieldType.boolean)) rfl (Nat.le_of_ble_eq_true rfl) (fun X h hq => ?_)
  have h : hX l G X cX10_mayOpen 3 "GlacierMailModel" 4 93 := h
  have hf := hf
  show V l G X 0 0 M 0 [(0, .ref a0), (1, .int a1), (2, .int a2)] []
  unfold f_X10_mayOpen at hf
  refine r_aload_n h 0 dX10_mayOpen_0 rfl rfl ?_
  refine r_aload_n h 0 dX10_mayOpen_1 rfl rfl ?_
  refine r_iload_n h 2 dX10_mayOpen_2 rfl rfl ?_
  refine r_iconst (v := 2) h dX10_mayOpen_3 (by decide) ?_
  obtain ⟨k1, hf⟩ := hf
  refine c2005 hl h dX10_mayOpen_4 k1 hf (Nat.le_of_ble_eq_true rfl) (by decide) (by decide) (fun x3 M2 hf => ?_)
  obtain ⟨k4, hf⟩ := hf
  refine p1614 h dX10_mayOpen_7 k4 ?_
  refine r_goW (fun M5 eM5 => ?_)
  have hf := hf M5 eM5
  refine r_aload_n h 0 dX10_mayOpen_10 rfl rfl ?_
  refine r_aload_n h 0 dX10_mayOpen_11 rfl rfl ?_
  obtain ⟨k6, hf⟩ := hf
  refine c1812 hl h dX10_mayOpen_12 k6 hf (Nat.le_of_ble_eq_true rfl) (by decide) (by decide) (fun x8 M7 hf => ?_)
  obtain ⟨k9, hf⟩ := hf
  refine p1615 h dX10_mayOpen_15 k9 ?_
  refine r_goW (fun M10 eM10 => ?_)
  have hf := hf M10 eM10
  refine r_aload_n h 0 dX10_mayOpen_18 rfl rfl ?_
  refine r_aload_n h 0 dX10_mayOpen_19 rfl rfl ?_
  obtain ⟨k11, hf⟩ := hf
  refine c1843 hl h dX10_mayOpen_20 k11 hf (Nat.le_of_ble_eq_true rfl) (by decide) (by decide) (fun x13 M12 hf => ?_)
  obtain ⟨k14, hf⟩ := hf
  refine p1616 h dX10_mayOpen_23 k14 ?_
  refine r_goW (fun M15 eM15 => ?_)
  have hf := hf M15 eM15
  refine r_aload_n h 0 dX10_mayOpen_26 rfl rfl ?_
  refine r_iconst (v := 0) h dX10_mayOpen_27 (by decide) ?_
  obtain ⟨k16, hf⟩ := hf
  refine p1617 h dX10_mayOpen_28 k16 ?_
  refine r_goW (fun M17 eM17 => ?_)
  have hf := hf M17 eM17
  refine r_aload_n h 0 dX10_mayOpen_31 rfl rfl ?_
  refine r_iload_n h 1 dX10_mayOpen_32 rfl rfl ?_
  obtain ⟨k18, hf⟩ := hf
  refine p1618 h dX10_mayOpen_33 k18 ?_
  refine r_goW (fun M19 eM19 => ?_)
  have hf := hf M19 eM19
  refine r_aload_n h 0 dX10_mayOpen_36 rfl rfl ?_
  refine r_aload_n h 0 dX10_mayOpen_37 rfl rfl ?_
  obtain ⟨k20, hf⟩ := hf
  refine c1843 hl h dX10_mayOpen_38 k20 hf (Nat.le_of_ble_eq_true rfl) (by decide) (by decide) (fun x22 M21 hf => ?_)
  refine r_aload_n h 0 dX10_mayOpen_41 rfl rfl ?_
  refine r_iload_n h 2 dX10_mayOpen_42 rfl rfl ?_
  refine r_iconst (v := 3) h dX10_mayOpen_43 (by decide) ?_
  obtain ⟨k23, hf⟩ := hf
  refine c2005 hl h dX10_mayOpen_44 k23 hf (Nat.le_of_ble_eq_true rfl) (by decide) (by decide) (fun x25 M24 hf => ?_)
  refine r_isub h dX10_mayOpen_47 ?_
  obtain ⟨k26, hf⟩ := hf
  refine p1619 h dX10_mayOpen_48 k26 ?_
  refine r_goW (fun M27 eM27 => ?_)
  have hf := hf M27 eM27
  refine r_aload_n h 0 dX10_mayOpen_51 rfl rfl ?_
  refine r_aload_n h 0 dX10_mayOpen_52 rfl rfl ?_
  obtain ⟨k28, hf⟩ := hf
  obtain ⟨b29, e30, hf⟩ := hf
  refine g1625 h dX10_mayOpen_53 k28 e30 ?_
  refine r_aload_n h 0 dX10_mayOpen_56 rfl rfl ?_
  refine g1626 h dX10_mayOpen_57 k28 ?_
  obtain ⟨j31, hf⟩ := hf
  refine r_iaload h dX10_mayOpen_60 j31 ?_
  refine p1620 h dX10_mayOpen_61 k28 ?_
  refine r_goW (fun M32 eM32 => ?_)
  have hf := hf M32 eM32
  refine r_aload_n h 0 dX10_mayOpen_64 rfl rfl ?_
  refine r_iconst (v := 2) h dX10_mayOpen_65 (by decide) ?_
  obtain ⟨k33, hf⟩ := hf
  refine c1975 hl h dX10_mayOpen_66 k33 hf (Nat.le_of_ble_eq_true rfl) (by decide) (by decide) (fun x35 M34 hf => ?_)
  refine r_if_le (tgt := 76) h dX10_mayOpen_69 (by decide) (fun c36 => ?_) (fun c36 => ?_)
  · have hf := ite_t c36 hf
    refine r_iconst (v := 0) h dX10_mayOpen_76 (by decide) ?_
    exact r_zreturn h hq dX10_mayOpen_77 (by decide) ⟨_, rfl, hf⟩
  · have hf := ite_f c36 hf
    refine r_iconst (v := 1) h dX10_mayOpen_72 (by decide) ?_
    refine r_goto (tgt := 77) h dX10_mayOpen_73 (by decide) ?_
    exact r_zreturn h hq dX10_mayOpen_77 (by decide) ⟨_, rfl, hf⟩
theorem c2093 {l : Launch} {G : gG} {X : gX} {cc : ByteArray} {nL F L bc bs pc : Nat} {M : gM} {lv : List (Nat × Value)} {rest : List Value} {a0 : Nat} {a1 : Int32} {a2 : Int32} {K : Int32 → gM → Prop} (hl : l.stackTraces = false) (h : hX l G X cc nL "GlacierMailModel" F L) (d : decode cc pc = .ok (.invokevirtual 417, 3)) (hk : kd M a0 = some (.inl 10)) (hf : f_X10_mayOpen a0 a1 a2 M K) (hst : (rest.map fun v => v.category).sum ≤ 8) (hF : 5 ≤ F) (hL : 115 ≤ L) (kk : ∀ x M1, K x M1 → V l G X bc bs M1 (pc + 3) lv (.int x :: rest)) : V l G X bc bs M pc lv (.int a2 :: .int a1 :: .ref a0 :: rest) := r_callV (n := 2) (As := [.int a1, .int a2]) h (m_X10_mayOpen hl hf) 10 rfl hk rfl ⟨by decide, by decide, by decide +kernel⟩ d q2093 q2095 qs118 q147 q2096 rfl rfl hst hF hL (Nat.zero_le _) (Nat.zero_le _) (kI_go kk) kN_go
def f_X10_opener (a0 : Nat) (a1 : Int32) (M : gM) (K : Int32 → gM → Prop) : Prop :=
  ∀ P31 : Nat → Int32 → Int32 → Int32 → gM → Prop,
  (∀ (v0 : Nat) (v1 : Int32) (v2 : Int32) (v3 : Int32) (M : gM), (kd M v0 = some (.inl 10) ∧ f_X10_people v0 M (fun x16 M15 => if x16 ≤ v3 then K (-1) M15 else kd M15 v0 = some (.inl 10) ∧ f_X10_of v0 v3 2 M15 (fun x20 M19 => if x20 = v2 then kd M19 v0 = some (.inl 10) ∧ f_X10_mayOpen v0 v3 v1 M19 (fun x24 M23 => if x24 = 0 then P31 v0 v1 v2 (v3 + 1) M23 else K v3 M23) else P31 v0 v1 v2 (v3 + 1) M19))) → P31 v0 v1 v2 v3 M) →
  kd M a0 = some (.inl 10) ∧ f_X10_ofLetter a0 a1 2 M (fun x3 M2 => kd M2 a0 = some (.inl 10) ∧ f_X10_ofLetter a0 a1 1 M2 (fun x6 M5 => kd M5 a0 = some (.inl 10) ∧ f_X10_of a0 x6 2 M5 (fun x9 M8 => if x9 = x3 then kd M8 a0 = some (.inl 10) ∧ f_X10_ofLetter a0 a1 1 M8 (fun x13 M12 => K x13 M12) else P31 a0 a1 x3 0 M8)))
set_option maxHeartbeats 4000000 in
theorem m_X10_opener {l : Launch} (hl : l.stackTraces = false) {G : gG} {a0 : Nat} {a1 : Int32} {M : gM} {K : Int32 → gM → Prop} (hf : f_X10_opener a0 a1 M K) : gMet l G yX10_opener (ws_ yX10_opener cX10_opener 4 (some Jvm.ClassFile.FieldType.int)) ({ frames := 5, cells := 0, slots := 0, locals := 115 }) M [.ref a0, .int a1] (kI K) kN := by
  refine gm_of hl (ret := (some Jvm.ClassFile.FieldType.int)) rfl (Nat.le_of_ble_eq_true rfl) (fun X h hq => ?_)
  have h : hX l G X cX10_opener 4 "GlacierMailModel" 5 115 := h
  have hf := hf
  show V l G X 0 0 M 0 [(0, .ref a0), (1, .int a1)] []
  have hf := hf
    (fun v0 v1 v2 v3 M => V l G X 0 0 M 31 [(0, .ref v0), (1, .int v1), (2, .int v2), (3, .int v3)] [])
    (by
      intro v0 v1 v2 v3 M hf
      show V l G X 0 0 M 31 [(0, .ref v0), (1, .int v1), (2, .int v2), (3, .int v3)] []
      refine r_iload_n h 3 dX10_opener_31 rfl rfl ?_
      refine r_aload_n h 0 dX10_opener_32 rfl rfl ?_
      obtain ⟨k14, hf⟩ := hf
      refine c1786 hl h dX10_opener_33 k14 hf (Nat.le_of_ble_eq_true rfl) (by decide) (by decide) (fun x16 M15 hf => ?_)
      refine r_icmp_ge (tgt := 66) h dX10_opener_36 (by decide) (fun c17 => ?_) (fun c17 => ?_)
      · have hf := ite_t c17 hf
        refine r_iconst (v := (-1)) h dX10_opener_66 (by decide) ?_
        exact r_ireturn h hq dX10_opener_67 ⟨_, rfl, hf⟩
      · have hf := ite_f c17 hf
        refine r_aload_n h 0 dX10_opener_39 rfl rfl ?_
        refine r_iload_n h 3 dX10_opener_40 rfl rfl ?_
        refine r_iconst (v := 2) h dX10_opener_41 (by decide) ?_
        obtain ⟨k18, hf⟩ := hf
        refine c1997 hl h dX10_opener_42 k18 hf (Nat.le_of_ble_eq_true rfl) (by decide) (by decide) (fun x20 M19 hf => ?_)
        refine r_iload_n h 2 dX10_opener_45 rfl rfl ?_
        refine r_icmp_ne (tgt := 60) h dX10_opener_46 (by decide) (fun c21 => ?_) (fun c21 => ?_)
        · have hf := ite_f c21 hf
          refine r_iinc (v := v3 + 1) (lv' := [(3, .int (v3 + 1)), (0, .ref v0), (1, .int v1), (2, .int v2)]) h 3 dX10_opener_60 rfl rfl (by decide) rfl ?_
          refine r_goto (tgt := 31) h dX10_opener_63 (by decide) ?_
          exact V.sub [1, 2, 3, 0] rfl hf
        · have hf := ite_t c21 hf
          refine r_aload_n h 0 dX10_opener_49 rfl rfl ?_
          refine r_iload_n h 3 dX10_opener_50 rfl rfl ?_
          refine r_iload_n h 1 dX10_opener_51 rfl rfl ?_
          obtain ⟨k22, hf⟩ := hf
          refine c2093 hl h dX10_opener_52 k22 hf (Nat.le_of_ble_eq_true rfl) (by decide) (by decide) (fun x24 M23 hf => ?_)
          refine r_if_eq (tgt := 60) h dX10_opener_55 (by decide) (fun c25 => ?_) (fun c25 => ?_)
          · have hf := ite_t c25 hf
            refine r_iinc (v := v3 + 1) (lv' := [(3, .int (v3 + 1)), (0, .ref v0), (1, .int v1), (2, .int v2)]) h 3 dX10_opener_60 rfl rfl (by decide) rfl ?_
            refine r_goto (tgt := 31) h dX10_opener_63 (by decide) ?_
            exact V.sub [1, 2, 3, 0] rfl hf
          · have hf := ite_f c25 hf
            refine r_iload_n h 3 dX10_opener_58 rfl rfl ?_
            exact r_ireturn h hq dX10_opener_59 ⟨_, rfl, hf⟩)
  refine r_aload_n h 0 dX10_opener_0 rfl rfl ?_
  refine r_iload_n h 1 dX10_opener_1 rfl rfl ?_
  refine r_iconst (v := 2) h dX10_opener_2 (by decide) ?_
  obtain ⟨k1, hf⟩ := hf
  refine c2005 hl h dX10_opener_3 k1 hf (Nat.le_of_ble_eq_true rfl) (by decide) (by decide) (fun x3 M2 hf => ?_)
  refine r_istore_n (lv' := [(2, .int x3), (0, .ref a0), (1, .int a1)]) h dX10_opener_6 rfl (by decide) rfl ?_
  refine r_aload_n h 1 dX10_opener_7 rfl rfl ?_
  refine r_aload_n h 1 dX10_opener_8 rfl rfl ?_
  refine r_iload_n h 2 dX10_opener_9 rfl rfl ?_
  refine r_iconst (v := 1) h dX10_opener_10 (by decide) ?_
  obtain ⟨k4, hf⟩ := hf
  refine c2005 hl h dX10_opener_11 k4 hf (Nat.le_of_ble_eq_true rfl) (by decide) (by decide) (fun x6 M5 hf => ?_)
  refine r_iconst (v := 2) h dX10_opener_14 (by decide) ?_
  obtain ⟨k7, hf⟩ := hf
  refine c1997 hl h dX10_opener_15 k7 hf (Nat.le_of_ble_eq_true rfl) (by decide) (by decide) (fun x9 M8 hf => ?_)
  refine r_iload_n h 0 dX10_opener_18 rfl rfl ?_
  refine r_icmp_ne (tgt := 29) h dX10_opener_19 (by decide) (fun c10 => ?_) (fun c10 => ?_)
  · have hf := ite_f c10 hf
    refine r_iconst (v := 0) h dX10_opener_29 (by decide) ?_
    refine r_istore_n (lv' := [(3, .int 0), (2, .int x3), (0, .ref a0), (1, .int a1)]) h dX10_opener_30 rfl (by decide) rfl ?_
    exact V.sub [2, 3, 1, 0] rfl hf
  · have hf := ite_t c10 hf
    refine r_aload_n h 1 dX10_opener_22 rfl rfl ?_
    refine r_iload_n h 2 dX10_opener_23 rfl rfl ?_
    refine r_iconst (v := 1) h dX10_opener_24 (by decide) ?_
    obtain ⟨k11, hf⟩ := hf
    refine c2005 hl h dX10_opener_25 k11 hf (Nat.le_of_ble_eq_true rfl) (by decide) (by decide) (fun x13 M12 hf => ?_)
    exact r_ireturn h hq dX10_opener_28 ⟨_, rfl, hf⟩
theorem c2089 {l : Launch} {G : gG} {X : gX} {cc : ByteArray} {nL F L bc bs pc : Nat} {M : gM} {lv : List (Nat × Value)} {rest : List Value} {a0 : Nat} {a1 : Int32} {K : Int32 → gM → Prop} (hl : l.stackTraces = false) (h : hX l G X cc nL "GlacierMailModel" F L) (d : decode cc pc = .ok (.invokevirtual 420, 3)) (hk : kd M a0 = some (.inl 10)) (hf : f_X10_opener a0 a1 M K) (hst : (rest.map fun v => v.category).sum ≤ 8) (hF : 6 ≤ F) (hL : 138 ≤ L) (kk : ∀ x M1, K x M1 → V l G X bc bs M1 (pc + 3) lv (.int x :: rest)) : V l G X bc bs M pc lv (.int a1 :: .ref a0 :: rest) := r_callV (n := 1) (As := [.int a1]) h (m_X10_opener hl hf) 10 rfl hk rfl ⟨by decide, by decide, by decide +kernel⟩ d q2089 q2091 qs117 q147 q2092 rfl rfl hst hF hL (Nat.zero_le _) (Nat.zero_le _) (kI_go kk) kN_go
def f_X10_year (a0 : Nat) (M : gM) (K : Int32 → gM → Prop) : Prop :=
  ∀ P15 : Nat → Int32 → Int32 → gM → Prop,
  ∀ P40 : Nat → Int32 → Int32 → Int32 → gM → Prop,
  (∀ (v0 : Nat) (v1 : Int32) (v2 : Int32) (M : gM), (kd M v0 = some (.inl 10) ∧ f_X10_letters v0 M (fun x9 M8 => if x9 ≤ v2 then K v1 M8 else kd M8 v0 = some (.inl 10) ∧ f_X10_isWaiting v0 v2 M8 (fun x13 M12 => if x13 = 0 then P40 v0 v1 v2 (-1) M12 else kd M12 v0 = some (.inl 10) ∧ f_X10_opener v0 v2 M12 (fun x17 M16 => P40 v0 v1 v2 x17 M16)))) → P15 v0 v1 v2 M) →
  (∀ (v0 : Nat) (v1 : Int32) (v2 : Int32) (s0 : Int32) (M : gM), (if 0 ≤ s0 then kd M v0 = some (.inl 10) ∧ f_X10_opens v0 v2 s0 M (fun M20 => P15 v0 (v1 + 1) (v2 + 1) M20) else P15 v0 v1 (v2 + 1) M) → P40 v0 v1 v2 s0 M) →
  kd M a0 = some (.inl 10) ∧ ∃ b2, rv M a0 1 = some b2 ∧ inA M b2 0 9 ∧ inA M b2 0 9 ∧ ∀ M6, M6 = sI M b2 (ix 9) ((iv M b2 (ix 9)) + 1) → P15 a0 0 0 M6
set_option maxHeartbeats 4000000 in
theorem m_X10_year {l : Launch} (hl : l.stackTraces = false) {G : gG} {a0 : Nat} {M : gM} {K : Int32 → gM → Prop} (hf : f_X10_year a0 M K) : gMet l G yX10_year (ws_ yX10_year cX10_year 4 (some Jvm.ClassFile.FieldType.int)) ({ frames := 9, cells := 0, slots := 0, locals := 211 }) M [.ref a0] (kI K) kN := by
  refine gm_of hl (ret := (some Jvm.ClassFile.FieldType.int)) rfl (Nat.le_of_ble_eq_true rfl) (fun X h hq => ?_)
  have h : hX l G X cX10_year 4 "GlacierMailModel" 9 211 := h
  have hf := hf
  show V l G X 0 0 M 0 [(0, .ref a0)] []
  have hf := hf
    (fun v0 v1 v2 M => V l G X 0 0 M 15 [(0, .ref v0), (1, .int v1), (2, .int v2)] [])
    (fun v0 v1 v2 s0 M => V l G X 0 0 M 40 [(0, .ref v0), (1, .int v1), (2, .int v2)] [.int s0])
    (by
      intro v0 v1 v2 M hf
      show V l G X 0 0 M 15 [(0, .ref v0), (1, .int v1), (2, .int v2)] []
      refine r_iload_n h 2 dX10_year_15 rfl rfl ?_
      refine r_aload_n h 0 dX10_year_16 rfl rfl ?_
      obtain ⟨k7, hf⟩ := hf
      refine c1790 hl h dX10_year_17 k7 hf (Nat.le_of_ble_eq_true rfl) (by decide) (by decide) (fun x9 M8 hf => ?_)
      refine r_icmp_ge (tgt := 63) h dX10_year_20 (by decide) (fun c10 => ?_) (fun c10 => ?_)
      · have hf := ite_t c10 hf
        refine r_iload_n h 1 dX10_year_63 rfl rfl ?_
        exact r_ireturn h hq dX10_year_64 ⟨_, rfl, hf⟩
      · have hf := ite_f c10 hf
        refine r_aload_n h 0 dX10_year_23 rfl rfl ?_
        refine r_iload_n h 2 dX10_year_24 rfl rfl ?_
        obtain ⟨k11, hf⟩ := hf
        refine c2009 hl h dX10_year_25 k11 hf (Nat.le_of_ble_eq_true rfl) (by decide) (by decide) (fun x13 M12 hf => ?_)
        refine r_if_eq (tgt := 39) h dX10_year_28 (by decide) (fun c14 => ?_) (fun c14 => ?_)
        · have hf := ite_t c14 hf
          refine r_iconst (v := (-1)) h dX10_year_39 (by decide) ?_
          exact V.sub [0, 1, 2] rfl hf
        · have hf := ite_f c14 hf
          refine r_aload_n h 0 dX10_year_31 rfl rfl ?_
          refine r_iload_n h 2 dX10_year_32 rfl rfl ?_
          obtain ⟨k15, hf⟩ := hf
          refine c2089 hl h dX10_year_33 k15 hf (Nat.le_of_ble_eq_true rfl) (by decide) (by decide) (fun x17 M16 hf => ?_)
          refine r_goto (tgt := 40) h dX10_year_36 (by decide) ?_
          exact V.sub [0, 1, 2] rfl hf)
    (by
      intro v0 v1 v2 s0 M hf
      show V l G X 0 0 M 40 [(0, .ref v0), (1, .int v1), (2, .int v2)] [.int s0]
      refine r_istore_n (lv' := [(3, .int s0), (0, .ref v0), (1, .int v1), (2, .int v2)]) h dX10_year_40 rfl (by decide) rfl ?_
      refine r_iload_n h 0 dX10_year_41 rfl rfl ?_
      refine r_if_ge (tgt := 48) h dX10_year_42 (by decide) (fun c18 => ?_) (fun c18 => ?_)
      · have hf := ite_t c18 hf
        refine r_aload_n h 1 dX10_year_48 rfl rfl ?_
        refine r_iload_n h 3 dX10_year_49 rfl rfl ?_
        refine r_iload_n h 0 dX10_year_50 rfl rfl ?_
        obtain ⟨k19, hf⟩ := hf
        refine c2077 hl h dX10_year_51 k19 hf (Nat.le_of_ble_eq_true rfl) (by decide) (by decide) (fun M20 hf => ?_)
        refine r_iinc (v := v1 + 1) (lv' := [(1, .int (v1 + 1)), (3, .int s0), (0, .ref v0), (2, .int v2)]) h 2 dX10_year_54 rfl rfl (by decide) rfl ?_
        refine r_iinc (v := v2 + 1) (lv' := [(2, .int (v2 + 1)), (1, .int (v1 + 1)), (3, .int s0), (0, .ref v0)]) h 3 dX10_year_57 rfl rfl (by decide) rfl ?_
        refine r_goto (tgt := 15) h dX10_year_60 (by decide) ?_
        exact V.sub [3, 1, 0] rfl hf
      · have hf := ite_f c18 hf
        refine r_goto (tgt := 57) h dX10_year_45 (by decide) ?_
        refine r_iinc (v := v2 + 1) (lv' := [(2, .int (v2 + 1)), (3, .int s0), (0, .ref v0), (1, .int v1)]) h 3 dX10_year_57 rfl rfl (by decide) rfl ?_
        refine r_goto (tgt := 15) h dX10_year_60 (by decide) ?_
        exact V.sub [2, 3, 0] rfl hf)
  refine r_aload_n h 0 dX10_year_0 rfl rfl ?_
  obtain ⟨k1, hf⟩ := hf
  obtain ⟨b2, e3, hf⟩ := hf
  refine g1598 h dX10_year_1 k1 e3 ?_
  refine r_bipush (v := 9) h dX10_year_4 (by decide) ?_
  refine r_dup2 h dX10_year_6 rfl rfl ?_
  obtain ⟨j4, hf⟩ := hf
  refine r_iaload h dX10_year_7 j4 ?_
  refine r_iconst (v := 1) h dX10_year_8 (by decide) ?_
  refine r_iadd h dX10_year_9 ?_
  obtain ⟨j5, hf⟩ := hf
  refine r_iastore h dX10_year_10 j5 ?_
  refine r_goW (fun M6 eM6 => ?_)
  have hf := hf M6 eM6
  refine r_iconst (v := 0) h dX10_year_11 (by decide) ?_
  refine r_istore_n (lv' := [(1, .int 0), (0, .ref a0)]) h dX10_year_12 rfl (by decide) rfl ?_
  refine r_iconst (v := 0) h dX10_year_13 (by decide) ?_
  refine r_istore_n (lv' := [(2, .int 0), (1, .int 0), (0, .ref a0)]) h dX10_year_14 rfl (by decide) rfl ?_
  exact V.sub [2, 1, 0] rfl hf
theorem c2085 {l : Launch} {G : gG} {X : gX} {cc : ByteArray} {nL F L bc bs pc : Nat} {M : gM} {lv : List (Nat × Value)} {rest : List Value} {a0 : Nat} {K : Int32 → gM → Prop} (hl : l.stackTraces = false) (h : hX l G X cc nL "GlacierMailModel" F L) (d : decode cc pc = .ok (.invokevirtual 423, 3)) (hk : kd M a0 = some (.inl 10)) (hf : f_X10_year a0 M K) (hst : (rest.map fun v => v.category).sum ≤ 8) (hF : 10 ≤ F) (hL : 234 ≤ L) (kk : ∀ x M1, K x M1 → V l G X bc bs M1 (pc + 3) lv (.int x :: rest)) : V l G X bc bs M pc lv (.ref a0 :: rest) := r_callV (n := 0) (As := []) h (m_X10_year hl hf) 10 rfl hk rfl ⟨by decide, by decide, by decide +kernel⟩ d q2085 q2087 qs116 q147 q2088 rfl rfl hst hF hL (Nat.zero_le _) (Nat.zero_le _) (kI_go kk) kN_go
def f_X10_years (a0 : Nat) (a1 : Int32) (M : gM) (K : Int32 → gM → Prop) : Prop :=
  ∀ P33 : Nat → Int32 → Int32 → Nat → gM → Prop,
  ∀ P50 : Nat → Int32 → Int32 → Int32 → gM → Prop,
  (∀ (v0 : Nat) (v1 : Int32) (s0 : Int32) (s1 : Nat) (M : gM), (kd M s1 = some (.inl 10) ∧ f_X10_throwsIf s1 s0 1 M (fun x12 M11 => if x12 = 0 then kd M11 v0 = some (.inl 10) ∧ f_X10_remembers v0 M11 (fun M15 => P50 v0 v1 0 0 M15) else K 0 M11)) → P33 v0 v1 s0 s1 M) →
  (∀ (v0 : Nat) (v1 : Int32) (v2 : Int32) (v3 : Int32) (M : gM), (if v1 ≤ v3 then K v2 M else kd M v0 = some (.inl 10) ∧ f_X10_year v0 M (fun x19 M18 => P50 v0 v1 (v2 + x19) (v3 + 1) M18)) → P50 v0 v1 v2 v3 M) →
  kd M a0 = some (.inl 10) ∧ ∀ M2, M2 = sI M a0 0 0 → f_X10_in a1 1 50 M2 (fun x4 M3 => if x4 = 0 then P33 a0 a1 1 a0 M3 else kd M3 a0 = some (.inl 10) ∧ f_X10_now a0 M3 (fun x8 M7 => if (x8 + a1) ≤ 299 then P33 a0 a1 0 a0 M7 else P33 a0 a1 1 a0 M7))
set_option maxHeartbeats 4000000 in
theorem m_X10_years {l : Launch} (hl : l.stackTraces = false) {G : gG} {a0 : Nat} {a1 : Int32} {M : gM} {K : Int32 → gM → Prop} (hf : f_X10_years a0 a1 M K) : gMet l G yX10_years (ws_ yX10_years cX10_years 4 (some Jvm.ClassFile.FieldType.int)) ({ frames := 10, cells := 0, slots := 0, locals := 234 }) M [.ref a0, .int a1] (kI K) kN := by
  refine gm_of hl (ret := (some Jvm.ClassFile.FieldType.int)) rfl (Nat.le_of_ble_eq_true rfl) (fun X h hq => ?_)
  have h : hX l G X cX10_years 4 "GlacierMailModel" 10 234 := h
  have hf := hf
  show V l G X 0 0 M 0 [(0, .ref a0), (1, .int a1)] []
  have hf := hf
    (fun v0 v1 s0 s1 M => V l G X 0 0 M 33 [(0, .ref v0), (1, .int v1)] [.int s0, .ref s1])
    (fun v0 v1 v2 v3 M => V l G X 0 0 M 50 [(0, .ref v0), (1, .int v1), (2, .int v2), (3, .int v3)] [])
    (by
      intro v0 v1 s0 s1 M hf
      show V l G X 0 0 M 33 [(0, .ref v0), (1, .int v1)] [.int s0, .ref s1]
      refine r_iconst (v := 1) h dX10_years_33 (by decide) ?_
      obtain ⟨k10, hf⟩ := hf
      refine c1929 hl h dX10_years_34 k10 hf (Nat.le_of_ble_eq_true rfl) (by decide) (by decide) (fun x12 M11 hf => ?_)
      refine r_if_eq (tgt := 42) h dX10_years_37 (by decide) (fun c13 => ?_) (fun c13 => ?_)
      · have hf := ite_t c13 hf
        refine r_aload_n h 0 dX10_years_42 rfl rfl ?_
        obtain ⟨k14, hf⟩ := hf
        refine c2065 hl h dX10_years_43 k14 hf (Nat.le_of_ble_eq_true rfl) (by decide) (by decide) (fun M15 hf => ?_)
        refine r_iconst (v := 0) h dX10_years_46 (by decide) ?_
        refine r_istore_n (lv' := [(2, .int 0), (0, .ref v0), (1, .int v1)]) h dX10_years_47 rfl (by decide) rfl ?_
        refine r_iconst (v := 0) h dX10_years_48 (by decide) ?_
        refine r_istore_n (lv' := [(3, .int 0), (2, .int 0), (0, .ref v0), (1, .int v1)]) h dX10_years_49 rfl (by decide) rfl ?_
        exact V.sub [2, 3, 1, 0] rfl hf
      · have hf := ite_f c13 hf
        refine r_iconst (v := 0) h dX10_years_40 (by decide) ?_
        exact r_ireturn h hq dX10_years_41 ⟨_, rfl, hf⟩)
    (by
      intro v0 v1 v2 v3 M hf
      show V l G X 0 0 M 50 [(0, .ref v0), (1, .int v1), (2, .int v2), (3, .int v3)] []
      refine r_iload_n h 3 dX10_years_50 rfl rfl ?_
      refine r_iload_n h 1 dX10_years_51 rfl rfl ?_
      refine r_icmp_ge (tgt := 68) h dX10_years_52 (by decide) (fun c16 => ?_) (fun c16 => ?_)
      · have hf := ite_t c16 hf
        refine r_iload_n h 2 dX10_years_68 rfl rfl ?_
        exact r_ireturn h hq dX10_years_69 ⟨_, rfl, hf⟩
      · have hf := ite_f c16 hf
        refine r_iload_n h 2 dX10_years_55 rfl rfl ?_
        refine r_aload_n h 0 dX10_years_56 rfl rfl ?_
        obtain ⟨k17, hf⟩ := hf
        refine c2085 hl h dX10_years_57 k17 hf (Nat.le_of_ble_eq_true rfl) (by decide) (by decide) (fun x19 M18 hf => ?_)
        refine r_iadd h dX10_years_60 ?_
        refine r_istore_n (lv' := [(2, .int (v2 + x19)), (0, .ref v0), (1, .int v1), (3, .int v3)]) h dX10_years_61 rfl (by decide) rfl ?_
        refine r_iinc (v := v3 + 1) (lv' := [(3, .int (v3 + 1)), (2, .int (v2 + x19)), (0, .ref v0), (1, .int v1)]) h 3 dX10_years_62 rfl rfl (by decide) rfl ?_
        refine r_goto (tgt := 50) h dX10_years_65 (by decide) ?_
        exact V.sub [2, 3, 1, 0] rfl hf)
  refine r_aload_n h 0 dX10_years_0 rfl rfl ?_
  refine r_iconst (v := 0) h dX10_years_1 (by decide) ?_
  obtain ⟨k1, hf⟩ := hf
  refine p1597 h dX10_years_2 k1 ?_
  refine r_goW (fun M2 eM2 => ?_)
  have hf := hf M2 eM2
  refine r_aload_n h 0 dX10_years_5 rfl rfl ?_
  refine r_iload_n h 1 dX10_years_6 rfl rfl ?_
  refine r_iconst (v := 1) h dX10_years_7 (by decide) ?_
  refine r_bipush (v := 50) h dX10_years_8 (by decide) ?_
  refine c1944 hl h dX10_years_10 hf (Nat.le_of_ble_eq_true rfl) (by decide) (by decide) (fun x4 M3 hf => ?_)
  refine r_if_eq (tgt := 28) h dX10_years_13 (by decide) (fun c5 => ?_) (fun c5 => ?_)
  · have hf := ite_t c5 hf
    refine r_iconst (v := 1) h dX10_years_28 (by decide) ?_
    refine r_goto (tgt := 33) h dX10_years_29 (by decide) ?_
    exact V.sub [0, 1] rfl hf
  · have hf := ite_f c5 hf
    refine r_aload_n h 0 dX10_years_16 rfl rfl ?_
    obtain ⟨k6, hf⟩ := hf
    refine c1843 hl h dX10_years_17 k6 hf (Nat.le_of_ble_eq_true rfl) (by decide) (by decide) (fun x8 M7 hf => ?_)
    refine r_iload_n h 1 dX10_years_20 rfl rfl ?_
    refine r_iadd h dX10_years_21 ?_
    refine r_sipush (v := 299) h dX10_years_22 (by decide) ?_
    refine r_icmp_le (tgt := 32) h dX10_years_25 (by decide) (fun c9 => ?_) (fun c9 => ?_)
    · have hf := ite_t c9 hf
      refine r_iconst (v := 0) h dX10_years_32 (by decide) ?_
      exact V.sub [0, 1] rfl hf
    · have hf := ite_f c9 hf
      refine r_iconst (v := 1) h dX10_years_28 (by decide) ?_
      refine r_goto (tgt := 33) h dX10_years_29 (by decide) ?_
      exact V.sub [0, 1] rfl hf
theorem c2081 {l : Launch} {G : gG} {X : gX} {cc : ByteArray} {nL F L bc bs pc : Nat} {M : gM} {lv : List (Nat × Value)} {rest : List Value} {a0 : Nat} {a1 : Int32} {K : Int32 → gM → Prop} (hl : l.stackTraces = false) (h : hX l G X cc nL "GlacierMailLaw" F L) (d : decode cc pc = .ok (.invokevirtual 200, 3)) (hk : kd M a0 = some (.inl 10)) (hf : f_X10_years a0 a1 M K) (hst : (rest.map fun v => v.category).sum ≤ 8) (hF : 11 ≤ F) (hL : 257 ≤ L) (kk : ∀ x M1, K x M1 → V l G X bc bs M1 (pc + 3) lv (.int x :: rest)) : V l G X bc bs M pc lv (.int a1 :: .ref a0 :: rest) := r_callV (n := 1) (As := [.int a1]) h (m_X10_years hl hf) 10 rfl hk rfl ⟨by decide, by decide, by decide +kernel⟩ d q2081 q2082 q2083 q147 q2084 rfl rfl hst hF hL (Nat.zero_le _) (Nat.zero_le _) (kI_go kk) kN_go
def f_X10_outFrom (a0 : Nat) (a1 : Int32) (a2 : Int32) (a3 : Int32) (M : gM) (K : Int32 → gM → Prop) : Prop :=
  kd M a0 = some (.inl 10) ∧ f_X10_runs a0 a1 a2 a3 0 (-1) M (fun M2 => kd M2 a0 = some (.inl 10) ∧ K (iv M2 a0 29) M2)
set_option maxHeartbeats 4000000 in
theorem m_X10_outFrom {l : Launch} (hl : l.stackTraces = false) {G : gG} {a0 : Nat} {a1 : Int32} {a2 : Int32} {a3 : Int32} {M : gM} {K : Int32 → gM → Prop} (hf : f_X10_outFrom a0 a1 a2 a3 M K) : gMet l G yX10_outFrom (ws_ yX10_outFrom cX10_outFrom 4 (some Jvm.ClassFile.FieldType.int)) ({ frames := 6, cells := 0, slots := 0, locals := 146 }) M [.ref a0, .int a1, .int a2, .int a3] (kI K) kN := by
  refine gm_of hl (ret := (some Jvm.ClassFile.FieldType.int)) rfl (Nat.le_of_ble_eq_true rfl) (fun X h hq => ?_)
  have h : hX l G X cX10_outFrom 4 "GlacierMailModel" 6 146 := h
  have hf := hf
  show V l G X 0 0 M 0 [(0, .ref a0), (1, .int a1), (2, .int a2), (3, .int a3)] []
  unfold f_X10_outFrom at hf
  refine r_aload_n h 0 dX10_outFrom_0 rfl rfl ?_
  refine r_iload_n h 1 dX10_outFrom_1 rfl rfl ?_
  refine r_iload_n h 2 dX10_outFrom_2 rfl rfl ?_
  refine r_iload_n h 3 dX10_outFrom_3 rfl rfl ?_
  refine r_iconst (v := 0) h dX10_outFrom_4 (by decide) ?_
  refine r_iconst (v := (-1)) h dX10_outFrom_5 (by decide) ?_
  obtain ⟨k1, hf⟩ := hf
  refine c2025 hl h dX10_outFrom_6 k1 hf (Nat.le_of_ble_eq_true rfl) (by decide) (by decide) (fun M2 hf => ?_)
  refine r_aload_n h 0 dX10_outFrom_9 rfl rfl ?_
  obtain ⟨k3, hf⟩ := hf
  refine g1626 h dX10_outFrom_10 k3 ?_
  exact r_ireturn h hq dX10_outFrom_13 ⟨_, rfl, hf⟩
theorem c2101 {l : Launch} {G : gG} {X : gX} {cc : ByteArray} {nL F L bc bs pc : Nat} {M : gM} {lv : List (Nat × Value)} {rest : List Value} {a0 : Nat} {a1 : Int32} {a2 : Int32} {a3 : Int32} {K : Int32 → gM → Prop} (hl : l.stackTraces = false) (h : hX l G X cc nL "GlacierMailModel" F L) (d : decode cc pc = .ok (.invokevirtual 425, 3)) (hk : kd M a0 = some (.inl 10)) (hf : f_X10_outFrom a0 a1 a2 a3 M K) (hst : (rest.map fun v => v.category).sum ≤ 8) (hF : 7 ≤ F) (hL : 169 ≤ L) (kk : ∀ x M1, K x M1 → V l G X bc bs M1 (pc + 3) lv (.int x :: rest)) : V l G X bc bs M pc lv (.int a3 :: .int a2 :: .int a1 :: .ref a0 :: rest) := r_callV (n := 3) (As := [.int a1, .int a2, .int a3]) h (m_X10_outFrom hl hf) 10 rfl hk rfl ⟨by decide, by decide, by decide +kernel⟩ d q2101 q2103 qs119 q147 q2104 rfl rfl hst hF hL (Nat.zero_le _) (Nat.zero_le _) (kI_go kk) kN_go
def f_X10_throwsFor (a0 : Nat) (a1 : Int32) (a2 : Int32) (a3 : Int32) (a4 : Int32) (M : gM) (K : Int32 → gM → Prop) : Prop :=
  ∀ P46 : Nat → Int32 → Int32 → Int32 → Int32 → Int32 → Nat → gM → Prop,
  ∀ P69 : Nat → Int32 → Int32 → Int32 → Int32 → Int32 → Nat → gM → Prop,
  ∀ P90 : Nat → Int32 → Int32 → Int32 → Int32 → Int32 → Int32 → Int32 → Int32 → gM → Prop,
  (∀ (v0 : Nat) (v1 : Int32) (v2 : Int32) (v3 : Int32) (v4 : Int32) (s0 : Int32) (s1 : Nat) (M : gM), (kd M s1 = some (.inl 10) ∧ f_X10_throwsIf s1 s0 2 M (fun x22 M21 => if x22 = 0 then f_X10_in v4 0 2 M21 (fun x25 M24 => if x25 = 0 then P69 v0 v1 v2 v3 v4 1 v0 M24 else P69 v0 v1 v2 v3 v4 0 v0 M24) else K 0 M21)) → P46 v0 v1 v2 v3 v4 s0 s1 M) →
  (∀ (v0 : Nat) (v1 : Int32) (v2 : Int32) (v3 : Int32) (v4 : Int32) (s0 : Int32) (s1 : Nat) (M : gM), (kd M s1 = some (.inl 10) ∧ f_X10_throwsIf s1 s0 3 M (fun x29 M28 => if x29 = 0 then P90 v0 v1 v2 v3 v4 0 (-1) (-1) 0 M28 else K 0 M28)) → P69 v0 v1 v2 v3 v4 s0 s1 M) →
  (∀ (v0 : Nat) (v1 : Int32) (v2 : Int32) (v3 : Int32) (v4 : Int32) (v5 : Int32) (v6 : Int32) (v7 : Int32) (v8 : Int32) (M : gM), (kd M v0 = some (.inl 10) ∧ f_X10_lip v0 M (fun x33 M32 => if x33 ≤ v8 then if v4 = 0 then K v5 M32 else if v4 = 1 then K v6 M32 else K v7 M32 else kd M32 v0 = some (.inl 10) ∧ f_X10_outFrom v0 v1 v8 v2 M32 (fun x39 M38 => if x39 = v3 then if v5 = 0 then P90 v0 v1 v2 v3 v4 (v5 + 1) v8 v8 (v8 + 1) M38 else P90 v0 v1 v2 v3 v4 (v5 + 1) v6 v8 (v8 + 1) M38 else P90 v0 v1 v2 v3 v4 v5 v6 v7 (v8 + 1) M38))) → P90 v0 v1 v2 v3 v4 v5 v6 v7 v8 M) →
  kd M a0 = some (.inl 10) ∧ ∀ M2, M2 = sI M a0 0 0 → kd M2 a0 = some (.inl 10) ∧ f_X10_noLane a0 a1 M2 (fun x5 M4 => kd M4 a0 = some (.inl 10) ∧ f_X10_throwsIf a0 x5 1 M4 (fun x8 M7 => if x8 = 0 then f_X10_noYear a2 M7 (fun x11 M10 => if x11 = 0 then f_X10_noYear a3 M10 (fun x14 M13 => if x14 = 0 then kd M13 a0 = some (.inl 10) ∧ f_X10_now a0 M13 (fun x18 M17 => if x18 ≤ a2 then P46 a0 a1 a2 a3 a4 0 a0 M17 else P46 a0 a1 a2 a3 a4 1 a0 M17) else P46 a0 a1 a2 a3 a4 1 a0 M13) else P46 a0 a1 a2 a3 a4 1 a0 M10) else K 0 M7))
set_option maxHeartbeats 4000000 in
theorem m_X10_throwsFor {l : Launch} (hl : l.stackTraces = false) {G : gG} {a0 : Nat} {a1 : Int32} {a2 : Int32} {a3 : Int32} {a4 : Int32} {M : gM} {K : Int32 → gM → Prop} (hf : f_X10_throwsFor a0 a1 a2 a3 a4 M K) : gMet l G yX10_throwsFor (ws_ yX10_throwsFor cX10_throwsFor 9 (some Jvm.ClassFile.FieldType.int)) ({ frames := 7, cells := 0, slots := 0, locals := 169 }) M [.ref a0, .int a1, .int a2, .int a3, .int a4] (kI K) kN := by
  refine gm_of hl (ret := (some Jvm.ClassFile.FieldType.int)) rfl (Nat.le_of_ble_eq_true rfl) (fun X h hq => ?_)
  have h : hX l G X cX10_throwsFor 9 "GlacierMailModel" 7 169 := h
  have hf := hf
  show V l G X 0 0 M 0 [(0, .ref a0), (1, .int a1), (2, .int a2), (3, .int a3), (4, .int a4)] []
  have hf := hf
    (fun v0 v1 v2 v3 v4 s0 s1 M => V l G X 0 0 M 46 [(0, .ref v0), (1, .int v1), (2, .int v2), (3, .int v3), (4, .int v4)] [.int s0, .ref s1])
    (fun v0 v1 v2 v3 v4 s0 s1 M => V l G X 0 0 M 69 [(0, .ref v0), (1, .int v1), (2, .int v2), (3, .int v3), (4, .int v4)] [.int s0, .ref s1])
    (fun v0 v1 v2 v3 v4 v5 v6 v7 v8 M => V l G X 0 0 M 90 [(0, .ref v0), (1, .int v1), (2, .int v2), (3, .int v3), (4, .int v4), (5, .int v5), (6, .int v6), (7, .int v7), (8, .int v8)] [])
    (by
      intro v0 v1 v2 v3 v4 s0 s1 M hf
      show V l G X 0 0 M 46 [(0, .ref v0), (1, .int v1), (2, .int v2), (3, .int v3), (4, .int v4)] [.int s0, .ref s1]
      refine r_iconst (v := 2) h dX10_throwsFor_46 (by decide) ?_
      obtain ⟨k20, hf⟩ := hf
      refine c1929 hl h dX10_throwsFor_47 k20 hf (Nat.le_of_ble_eq_true rfl) (by decide) (by decide) (fun x22 M21 hf => ?_)
      refine r_if_ne (tgt := 76) h dX10_throwsFor_50 (by decide) (fun c23 => ?_) (fun c23 => ?_)
      · have hf := ite_f c23 hf
        refine r_iconst (v := 0) h dX10_throwsFor_76 (by decide) ?_
        exact r_ireturn h hq dX10_throwsFor_77 ⟨_, rfl, hf⟩
      · have hf := ite_t c23 hf
        refine r_aload_n h 0 dX10_throwsFor_53 rfl rfl ?_
        refine r_iload h 4 dX10_throwsFor_54 rfl ?_
        refine r_iconst (v := 0) h dX10_throwsFor_56 (by decide) ?_
        refine r_iconst (v := 2) h dX10_throwsFor_57 (by decide) ?_
        refine c1944 hl h dX10_throwsFor_58 hf (Nat.le_of_ble_eq_true rfl) (by decide) (by decide) (fun x25 M24 hf => ?_)
        refine r_if_ne (tgt := 68) h dX10_throwsFor_61 (by decide) (fun c26 => ?_) (fun c26 => ?_)
        · have hf := ite_f c26 hf
          refine r_iconst (v := 0) h dX10_throwsFor_68 (by decide) ?_
          exact V.sub [0, 1, 2, 3, 4] rfl hf
        · have hf := ite_t c26 hf
          refine r_iconst (v := 1) h dX10_throwsFor_64 (by decide) ?_
          refine r_goto (tgt := 69) h dX10_throwsFor_65 (by decide) ?_
          exact V.sub [0, 1, 2, 3, 4] rfl hf)
    (by
      intro v0 v1 v2 v3 v4 s0 s1 M hf
      show V l G X 0 0 M 69 [(0, .ref v0), (1, .int v1), (2, .int v2), (3, .int v3), (4, .int v4)] [.int s0, .ref s1]
      refine r_iconst (v := 3) h dX10_throwsFor_69 (by decide) ?_
      obtain ⟨k27, hf⟩ := hf
      refine c1929 hl h dX10_throwsFor_70 k27 hf (Nat.le_of_ble_eq_true rfl) (by decide) (by decide) (fun x29 M28 hf => ?_)
      refine r_if_eq (tgt := 78) h dX10_throwsFor_73 (by decide) (fun c30 => ?_) (fun c30 => ?_)
      · have hf := ite_t c30 hf
        refine r_iconst (v := 0) h dX10_throwsFor_78 (by decide) ?_
        refine r_istore (lv' := [(5, .int 0), (0, .ref v0), (1, .int v1), (2, .int v2), (3, .int v3), (4, .int v4)]) h dX10_throwsFor_79 (by decide) rfl ?_
        refine r_iconst (v := (-1)) h dX10_throwsFor_81 (by decide) ?_
        refine r_istore (lv' := [(6, .int (-1)), (5, .int 0), (0, .ref v0), (1, .int v1), (2, .int v2), (3, .int v3), (4, .int v4)]) h dX10_throwsFor_82 (by decide) rfl ?_
        refine r_iconst (v := (-1)) h dX10_throwsFor_84 (by decide) ?_
        refine r_istore (lv' := [(7, .int (-1)), (6, .int (-1)), (5, .int 0), (0, .ref v0), (1, .int v1), (2, .int v2), (3, .int v3), (4, .int v4)]) h dX10_throwsFor_85 (by decide) rfl ?_
        refine r_iconst (v := 0) h dX10_throwsFor_87 (by decide) ?_
        refine r_istore (lv' := [(8, .int 0), (7, .int (-1)), (6, .int (-1)), (5, .int 0), (0, .ref v0), (1, .int v1), (2, .int v2), (3, .int v3), (4, .int v4)]) h dX10_throwsFor_88 (by decide) rfl ?_
        exact V.sub [4, 5, 6, 7, 8, 3, 2, 1, 0] rfl hf
      · have hf := ite_f c30 hf
        refine r_iconst (v := 0) h dX10_throwsFor_76 (by decide) ?_
        exact r_ireturn h hq dX10_throwsFor_77 ⟨_, rfl, hf⟩)
    (by
      intro v0 v1 v2 v3 v4 v5 v6 v7 v8 M hf
      show V l G X 0 0 M 90 [(0, .ref v0), (1, .int v1), (2, .int v2), (3, .int v3), (4, .int v4), (5, .int v5), (6, .int v6), (7, .int v7), (8, .int v8)] []
      refine r_iload h 8 dX10_throwsFor_90 rfl ?_
      refine r_aload_n h 0 dX10_throwsFor_92 rfl rfl ?_
      obtain ⟨k31, hf⟩ := hf
      refine c1812 hl h dX10_throwsFor_93 k31 hf (Nat.le_of_ble_eq_true rfl) (by decide) (by decide) (fun x33 M32 hf => ?_)
      refine r_icmp_ge (tgt := 141) h dX10_throwsFor_96 (by decide) (fun c34 => ?_) (fun c34 => ?_)
      · have hf := ite_t c34 hf
        refine r_iload h 4 dX10_throwsFor_141 rfl ?_
        refine r_if_ne (tgt := 151) h dX10_throwsFor_143 (by decide) (fun c35 => ?_) (fun c35 => ?_)
        · have hf := ite_f c35 hf
          refine r_iload h 4 dX10_throwsFor_151 rfl ?_
          refine r_iconst (v := 1) h dX10_throwsFor_153 (by decide) ?_
          refine r_icmp_ne (tgt := 162) h dX10_throwsFor_154 (by decide) (fun c36 => ?_) (fun c36 => ?_)
          · have hf := ite_f c36 hf
            refine r_iload h 7 dX10_throwsFor_162 rfl ?_
            exact r_ireturn h hq dX10_throwsFor_164 ⟨_, rfl, hf⟩
          · have hf := ite_t c36 hf
            refine r_iload h 6 dX10_throwsFor_157 rfl ?_
            refine r_goto (tgt := 164) h dX10_throwsFor_159 (by decide) ?_
            exact r_ireturn h hq dX10_throwsFor_164 ⟨_, rfl, hf⟩
        · have hf := ite_t c35 hf
          refine r_iload h 5 dX10_throwsFor_146 rfl ?_
          refine r_goto (tgt := 164) h dX10_throwsFor_148 (by decide) ?_
          exact r_ireturn h hq dX10_throwsFor_164 ⟨_, rfl, hf⟩
      · have hf := ite_f c34 hf
        refine r_aload_n h 0 dX10_throwsFor_99 rfl rfl ?_
        refine r_iload_n h 1 dX10_throwsFor_100 rfl rfl ?_
        refine r_iload h 8 dX10_throwsFor_101 rfl ?_
        refine r_iload_n h 2 dX10_throwsFor_103 rfl rfl ?_
        obtain ⟨k37, hf⟩ := hf
        refine c2101 hl h dX10_throwsFor_104 k37 hf (Nat.le_of_ble_eq_true rfl) (by decide) (by decide) (fun x39 M38 hf => ?_)
        refine r_iload_n h 3 dX10_throwsFor_107 rfl rfl ?_
        refine r_icmp_eq (tgt := 114) h dX10_throwsFor_108 (by decide) (fun c40 => ?_) (fun c40 => ?_)
        · have hf := ite_t c40 hf
          refine r_iload h 5 dX10_throwsFor_114 rfl ?_
          refine r_if_ne (tgt := 124) h dX10_throwsFor_116 (by decide) (fun c41 => ?_) (fun c41 => ?_)
          · have hf := ite_f c41 hf
            refine r_iload h 6 dX10_throwsFor_124 rfl ?_
            refine r_istore (lv' := [(6, .int v6), (0, .ref v0), (1, .int v1), (2, .int v2), (3, .int v3), (4, .int v4), (5, .int v5), (7, .int v7), (8, .int v8)]) h dX10_throwsFor_126 (by decide) rfl ?_
            refine r_iload h 8 dX10_throwsFor_128 rfl ?_
            refine r_istore (lv' := [(7, .int v8), (6, .int v6), (0, .ref v0), (1, .int v1), (2, .int v2), (3, .int v3), (4, .int v4), (5, .int v5), (8, .int v8)]) h dX10_throwsFor_130 (by decide) rfl ?_
            refine r_iinc (v := v5 + 1) (lv' := [(5, .int (v5 + 1)), (7, .int v8), (6, .int v6), (0, .ref v0), (1, .int v1), (2, .int v2), (3, .int v3), (4, .int v4), (8, .int v8)]) h 7 dX10_throwsFor_132 rfl rfl (by decide) rfl ?_
            refine r_iinc (v := v8 + 1) (lv' := [(8, .int (v8 + 1)), (5, .int (v5 + 1)), (7, .int v8), (6, .int v6), (0, .ref v0), (1, .int v1), (2, .int v2), (3, .int v3), (4, .int v4)]) h 8 dX10_throwsFor_135 rfl rfl (by decide) rfl ?_
            refine r_goto (tgt := 90) h dX10_throwsFor_138 (by decide) ?_
            exact V.sub [4, 5, 6, 7, 8, 1, 3, 2, 0] rfl hf
          · have hf := ite_t c41 hf
            refine r_iload h 8 dX10_throwsFor_119 rfl ?_
            refine r_goto (tgt := 126) h dX10_throwsFor_121 (by decide) ?_
            refine r_istore (lv' := [(6, .int v8), (0, .ref v0), (1, .int v1), (2, .int v2), (3, .int v3), (4, .int v4), (5, .int v5), (7, .int v7), (8, .int v8)]) h dX10_throwsFor_126 (by decide) rfl ?_
            refine r_iload h 8 dX10_throwsFor_128 rfl ?_
            refine r_istore (lv' := [(7, .int v8), (6, .int v8), (0, .ref v0), (1, .int v1), (2, .int v2), (3, .int v3), (4, .int v4), (5, .int v5), (8, .int v8)]) h dX10_throwsFor_130 (by decide) rfl ?_
            refine r_iinc (v := v5 + 1) (lv' := [(5, .int (v5 + 1)), (7, .int v8), (6, .int v8), (0, .ref v0), (1, .int v1), (2, .int v2), (3, .int v3), (4, .int v4), (8, .int v8)]) h 7 dX10_throwsFor_132 rfl rfl (by decide) rfl ?_
            refine r_iinc (v := v8 + 1) (lv' := [(8, .int (v8 + 1)), (5, .int (v5 + 1)), (7, .int v8), (6, .int v8), (0, .ref v0), (1, .int v1), (2, .int v2), (3, .int v3), (4, .int v4)]) h 8 dX10_throwsFor_135 rfl rfl (by decide) rfl ?_
            refine r_goto (tgt := 90) h dX10_throwsFor_138 (by decide) ?_
            exact V.sub [4, 5, 6, 7, 8, 1, 3, 2, 0] rfl hf
        · have hf := ite_f c40 hf
          refine r_goto (tgt := 135) h dX10_throwsFor_111 (by decide) ?_
          refine r_iinc (v := v8 + 1) (lv' := [(8, .int (v8 + 1)), (0, .ref v0), (1, .int v1), (2, .int v2), (3, .int v3), (4, .int v4), (5, .int v5), (6, .int v6), (7, .int v7)]) h 8 dX10_throwsFor_135 rfl rfl (by decide) rfl ?_
          refine r_goto (tgt := 90) h dX10_throwsFor_138 (by decide) ?_
          exact V.sub [1, 2, 3, 4, 5, 6, 7, 8, 0] rfl hf)
  refine r_aload_n h 0 dX10_throwsFor_0 rfl rfl ?_
  refine r_iconst (v := 0) h dX10_throwsFor_1 (by decide) ?_
  obtain ⟨k1, hf⟩ := hf
  refine p1597 h dX10_throwsFor_2 k1 ?_
  refine r_goW (fun M2 eM2 => ?_)
  have hf := hf M2 eM2
  refine r_aload_n h 0 dX10_throwsFor_5 rfl rfl ?_
  refine r_aload_n h 0 dX10_throwsFor_6 rfl rfl ?_
  refine r_iload_n h 1 dX10_throwsFor_7 rfl rfl ?_
  obtain ⟨k3, hf⟩ := hf
  refine c1951 hl h dX10_throwsFor_8 k3 hf (Nat.le_of_ble_eq_true rfl) (by decide) (by decide) (fun x5 M4 hf => ?_)
  refine r_iconst (v := 1) h dX10_throwsFor_11 (by decide) ?_
  obtain ⟨k6, hf⟩ := hf
  refine c1929 hl h dX10_throwsFor_12 k6 hf (Nat.le_of_ble_eq_true rfl) (by decide) (by decide) (fun x8 M7 hf => ?_)
  refine r_if_ne (tgt := 76) h dX10_throwsFor_15 (by decide) (fun c9 => ?_) (fun c9 => ?_)
  · have hf := ite_f c9 hf
    refine r_iconst (v := 0) h dX10_throwsFor_76 (by decide) ?_
    exact r_ireturn h hq dX10_throwsFor_77 ⟨_, rfl, hf⟩
  · have hf := ite_t c9 hf
    refine r_aload_n h 0 dX10_throwsFor_18 rfl rfl ?_
    refine r_iload_n h 2 dX10_throwsFor_19 rfl rfl ?_
    refine c1941 hl h dX10_throwsFor_20 hf (Nat.le_of_ble_eq_true rfl) (by decide) (by decide) (fun x11 M10 hf => ?_)
    refine r_if_ne (tgt := 41) h dX10_throwsFor_23 (by decide) (fun c12 => ?_) (fun c12 => ?_)
    · have hf := ite_f c12 hf
      refine r_iconst (v := 1) h dX10_throwsFor_41 (by decide) ?_
      refine r_goto (tgt := 46) h dX10_throwsFor_42 (by decide) ?_
      exact V.sub [0, 1, 2, 3, 4] rfl hf
    · have hf := ite_t c12 hf
      refine r_iload_n h 3 dX10_throwsFor_26 rfl rfl ?_
      refine c1941 hl h dX10_throwsFor_27 hf (Nat.le_of_ble_eq_true rfl) (by decide) (by decide) (fun x14 M13 hf => ?_)
      refine r_if_ne (tgt := 41) h dX10_throwsFor_30 (by decide) (fun c15 => ?_) (fun c15 => ?_)
      · have hf := ite_f c15 hf
        refine r_iconst (v := 1) h dX10_throwsFor_41 (by decide) ?_
        refine r_goto (tgt := 46) h dX10_throwsFor_42 (by decide) ?_
        exact V.sub [0, 1, 2, 3, 4] rfl hf
      · have hf := ite_t c15 hf
        refine r_iload_n h 2 dX10_throwsFor_33 rfl rfl ?_
        refine r_aload_n h 0 dX10_throwsFor_34 rfl rfl ?_
        obtain ⟨k16, hf⟩ := hf
        refine c1843 hl h dX10_throwsFor_35 k16 hf (Nat.le_of_ble_eq_true rfl) (by decide) (by decide) (fun x18 M17 hf => ?_)
        refine r_icmp_ge (tgt := 45) h dX10_throwsFor_38 (by decide) (fun c19 => ?_) (fun c19 => ?_)
        · have hf := ite_t c19 hf
          refine r_iconst (v := 0) h dX10_throwsFor_45 (by decide) ?_
          exact V.sub [0, 1, 2, 3, 4] rfl hf
        · have hf := ite_f c19 hf
          refine r_iconst (v := 1) h dX10_throwsFor_41 (by decide) ?_
          refine r_goto (tgt := 46) h dX10_throwsFor_42 (by decide) ?_
          exact V.sub [0, 1, 2, 3, 4] rfl hf
theorem c2097 {l : Launch} {G : gG} {X : gX} {cc : ByteArray} {nL F L bc bs pc : Nat} {M : gM} {lv : List (Nat × Value)} {rest : List Value} {a0 : Nat} {a1 : Int32} {a2 : Int32} {a3 : Int32} {a4 : Int32} {K : Int32 → gM → Prop} (hl : l.stackTraces = false) (h : hX l G X cc nL "GlacierMailLaw" F L) (d : decode cc pc = .ok (.invokevirtual 204, 3)) (hk : kd M a0 = some (.inl 10)) (hf : f_X10_throwsFor a0 a1 a2 a3 a4 M K) (hst : (rest.map fun v => v.category).sum ≤ 8) (hF : 8 ≤ F) (hL : 197 ≤ L) (kk : ∀ x M1, K x M1 → V l G X bc bs M1 (pc + 3) lv (.int x :: rest)) : V l G X bc bs M pc lv (.int a4 :: .int a3 :: .int a2 :: .int a1 :: .ref a0 :: rest) := r_callV (n := 4) (As := [.int a1, .int a2, .int a3, .int a4]) h (m_X10_throwsFor hl hf) 10 rfl hk rfl ⟨by decide, by decide, by decide +kernel⟩ d q2097 q2098 q2099 q147 q2100 rfl rfl hst hF hL (Nat.zero_le _) (Nat.zero_le _) (kI_go kk) kN_go
def f_X10_latest (a0 : Nat) (a1 : Int32) (a2 : Int32) (M : gM) (K : Int32 → gM → Prop) : Prop :=
  ∀ P36 : Nat → Int32 → Int32 → Int32 → gM → Prop,
  (∀ (v0 : Nat) (v1 : Int32) (v2 : Int32) (v3 : Int32) (M : gM), (kd M v0 = some (.inl 10) ∧ f_X10_now v0 M (fun x18 M17 => if v3 < x18 then K (-1) M17 else kd M17 v0 = some (.inl 10) ∧ f_X10_of v0 v1 0 M17 (fun x22 M21 => kd M21 v0 = some (.inl 10) ∧ f_X10_of v0 v1 1 M21 (fun x25 M24 => kd M24 v0 = some (.inl 10) ∧ f_X10_outFrom v0 x22 x25 v3 M24 (fun x28 M27 => if x28 < 0 then P36 v0 v1 v2 (v3 + (-1)) M27 else if v2 < x28 then P36 v0 v1 v2 (v3 + (-1)) M27 else K v3 M27))))) → P36 v0 v1 v2 v3 M) →
  kd M a0 = some (.inl 10) ∧ ∀ M2, M2 = sI M a0 0 0 → kd M2 a0 = some (.inl 10) ∧ f_X10_noPerson a0 a1 M2 (fun x5 M4 => kd M4 a0 = some (.inl 10) ∧ f_X10_throwsIf a0 x5 1 M4 (fun x8 M7 => if x8 = 0 then f_X10_noYear a2 M7 (fun x11 M10 => kd M10 a0 = some (.inl 10) ∧ f_X10_throwsIf a0 x11 2 M10 (fun x14 M13 => if x14 = 0 then P36 a0 a1 a2 299 M13 else K 0 M13)) else K 0 M7))
set_option maxHeartbeats 4000000 in
theorem m_X10_latest {l : Launch} (hl : l.stackTraces = false) {G : gG} {a0 : Nat} {a1 : Int32} {a2 : Int32} {M : gM} {K : Int32 → gM → Prop} (hf : f_X10_latest a0 a1 a2 M K) : gMet l G yX10_latest (ws_ yX10_latest cX10_latest 5 (some Jvm.ClassFile.FieldType.int)) ({ frames := 7, cells := 0, slots := 0, locals := 169 }) M [.ref a0, .int a1, .int a2] (kI K) kN := by
  refine gm_of hl (ret := (some Jvm.ClassFile.FieldType.int)) rfl (Nat.le_of_ble_eq_true rfl) (fun X h hq => ?_)
  have h : hX l G X cX10_latest 5 "GlacierMailModel" 7 169 := h
  have hf := hf
  show V l G X 0 0 M 0 [(0, .ref a0), (1, .int a1), (2, .int a2)] []
  have hf := hf
    (fun v0 v1 v2 v3 M => V l G X 0 0 M 36 [(0, .ref v0), (1, .int v1), (2, .int v2), (3, .int v3)] [])
    (by
      intro v0 v1 v2 v3 M hf
      show V l G X 0 0 M 36 [(0, .ref v0), (1, .int v1), (2, .int v2), (3, .int v3)] []
      refine r_iload_n h 3 dX10_latest_36 rfl rfl ?_
      refine r_aload_n h 0 dX10_latest_37 rfl rfl ?_
      obtain ⟨k16, hf⟩ := hf
      refine c1843 hl h dX10_latest_38 k16 hf (Nat.le_of_ble_eq_true rfl) (by decide) (by decide) (fun x18 M17 hf => ?_)
      refine r_icmp_lt (tgt := 82) h dX10_latest_41 (by decide) (fun c19 => ?_) (fun c19 => ?_)
      · have hf := ite_t c19 hf
        refine r_iconst (v := (-1)) h dX10_latest_82 (by decide) ?_
        exact r_ireturn h hq dX10_latest_83 ⟨_, rfl, hf⟩
      · have hf := ite_f c19 hf
        refine r_aload_n h 0 dX10_latest_44 rfl rfl ?_
        refine r_aload_n h 0 dX10_latest_45 rfl rfl ?_
        refine r_iload_n h 1 dX10_latest_46 rfl rfl ?_
        refine r_iconst (v := 0) h dX10_latest_47 (by decide) ?_
        obtain ⟨k20, hf⟩ := hf
        refine c1997 hl h dX10_latest_48 k20 hf (Nat.le_of_ble_eq_true rfl) (by decide) (by decide) (fun x22 M21 hf => ?_)
        refine r_aload_n h 0 dX10_latest_51 rfl rfl ?_
        refine r_iload_n h 1 dX10_latest_52 rfl rfl ?_
        refine r_iconst (v := 1) h dX10_latest_53 (by decide) ?_
        obtain ⟨k23, hf⟩ := hf
        refine c1997 hl h dX10_latest_54 k23 hf (Nat.le_of_ble_eq_true rfl) (by decide) (by decide) (fun x25 M24 hf => ?_)
        refine r_iload_n h 3 dX10_latest_57 rfl rfl ?_
        obtain ⟨k26, hf⟩ := hf
        refine c2101 hl h dX10_latest_58 k26 hf (Nat.le_of_ble_eq_true rfl) (by decide) (by decide) (fun x28 M27 hf => ?_)
        refine r_istore (lv' := [(4, .int x28), (0, .ref v0), (1, .int v1), (2, .int v2), (3, .int v3)]) h dX10_latest_61 (by decide) rfl ?_
        refine r_iload h 0 dX10_latest_63 rfl ?_
        refine r_if_lt (tgt := 76) h dX10_latest_65 (by decide) (fun c29 => ?_) (fun c29 => ?_)
        · have hf := ite_t c29 hf
          refine r_iinc (v := v3 + (-1)) (lv' := [(3, .int (v3 + (-1))), (4, .int x28), (0, .ref v0), (1, .int v1), (2, .int v2)]) h 4 dX10_latest_76 rfl rfl (by decide) rfl ?_
          refine r_goto (tgt := 36) h dX10_latest_79 (by decide) ?_
          exact V.sub [2, 3, 4, 0] rfl hf
        · have hf := ite_f c29 hf
          refine r_iload h 0 dX10_latest_68 rfl ?_
          refine r_iload_n h 3 dX10_latest_70 rfl rfl ?_
          refine r_icmp_gt (tgt := 76) h dX10_latest_71 (by decide) (fun c30 => ?_) (fun c30 => ?_)
          · have hf := ite_t c30 hf
            refine r_iinc (v := v3 + (-1)) (lv' := [(3, .int (v3 + (-1))), (4, .int x28), (0, .ref v0), (1, .int v1), (2, .int v2)]) h 4 dX10_latest_76 rfl rfl (by decide) rfl ?_
            refine r_goto (tgt := 36) h dX10_latest_79 (by decide) ?_
            exact V.sub [2, 3, 4, 0] rfl hf
          · have hf := ite_f c30 hf
            refine r_iload_n h 4 dX10_latest_74 rfl rfl ?_
            exact r_ireturn h hq dX10_latest_75 ⟨_, rfl, hf⟩)
  refine r_aload_n h 0 dX10_latest_0 rfl rfl ?_
  refine r_iconst (v := 0) h dX10_latest_1 (by decide) ?_
  obtain ⟨k1, hf⟩ := hf
  refine p1597 h dX10_latest_2 k1 ?_
  refine r_goW (fun M2 eM2 => ?_)
  have hf := hf M2 eM2
  refine r_aload_n h 0 dX10_latest_5 rfl rfl ?_
  refine r_aload_n h 0 dX10_latest_6 rfl rfl ?_
  refine r_iload_n h 1 dX10_latest_7 rfl rfl ?_
  obtain ⟨k3, hf⟩ := hf
  refine c1993 hl h dX10_latest_8 k3 hf (Nat.le_of_ble_eq_true rfl) (by decide) (by decide) (fun x5 M4 hf => ?_)
  refine r_iconst (v := 1) h dX10_latest_11 (by decide) ?_
  obtain ⟨k6, hf⟩ := hf
  refine c1929 hl h dX10_latest_12 k6 hf (Nat.le_of_ble_eq_true rfl) (by decide) (by decide) (fun x8 M7 hf => ?_)
  refine r_if_ne (tgt := 30) h dX10_latest_15 (by decide) (fun c9 => ?_) (fun c9 => ?_)
  · have hf := ite_f c9 hf
    refine r_iconst (v := 0) h dX10_latest_30 (by decide) ?_
    exact r_ireturn h hq dX10_latest_31 ⟨_, rfl, hf⟩
  · have hf := ite_t c9 hf
    refine r_aload_n h 0 dX10_latest_18 rfl rfl ?_
    refine r_iload_n h 2 dX10_latest_19 rfl rfl ?_
    refine c1941 hl h dX10_latest_20 hf (Nat.le_of_ble_eq_true rfl) (by decide) (by decide) (fun x11 M10 hf => ?_)
    refine r_iconst (v := 2) h dX10_latest_23 (by decide) ?_
    obtain ⟨k12, hf⟩ := hf
    refine c1929 hl h dX10_latest_24 k12 hf (Nat.le_of_ble_eq_true rfl) (by decide) (by decide) (fun x14 M13 hf => ?_)
    refine r_if_eq (tgt := 32) h dX10_latest_27 (by decide) (fun c15 => ?_) (fun c15 => ?_)
    · have hf := ite_t c15 hf
      refine r_sipush (v := 299) h dX10_latest_32 (by decide) ?_
      refine r_istore_n (lv' := [(3, .int 299), (0, .ref a0), (1, .int a1), (2, .int a2)]) h dX10_latest_35 rfl (by decide) rfl ?_
      exact V.sub [1, 2, 3, 0] rfl hf
    · have hf := ite_f c15 hf
      refine r_iconst (v := 0) h dX10_latest_30 (by decide) ?_
      exact r_ireturn h hq dX10_latest_31 ⟨_, rfl, hf⟩
theorem c2105 {l : Launch} {G : gG} {X : gX} {cc : ByteArray} {nL F L bc bs pc : Nat} {M : gM} {lv : List (Nat × Value)} {rest : List Value} {a0 : Nat} {a1 : Int32} {a2 : Int32} {K : Int32 → gM → Prop} (hl : l.stackTraces = false) (h : hX l G X cc nL "GlacierMailLaw" F L) (d : decode cc pc = .ok (.invokevirtual 207, 3)) (hk : kd M a0 = some (.inl 10)) (hf : f_X10_latest a0 a1 a2 M K) (hst : (rest.map fun v => v.category).sum ≤ 8) (hF : 8 ≤ F) (hL : 193 ≤ L) (kk : ∀ x M1, K x M1 → V l G X bc bs M1 (pc + 3) lv (.int x :: rest)) : V l G X bc bs M pc lv (.int a2 :: .int a1 :: .ref a0 :: rest) := r_callV (n := 2) (As := [.int a1, .int a2]) h (m_X10_latest hl hf) 10 rfl hk rfl ⟨by decide, by decide, by decide +kernel⟩ d q2105 q2106 q2107 q147 q2108 rfl rfl hst hF hL (Nat.zero_le _) (Nat.zero_le _) (kI_go kk) kN_go
def f_X10_hut (a0 : Nat) (a1 : Int32) (a2 : Int32) (M : gM) (K : Int32 → gM → Prop) : Prop :=
  ∀ P35 : Nat → Int32 → Int32 → Int32 → Nat → gM → Prop,
  ∀ P46 : Nat → Int32 → Int32 → Int32 → gM → Prop,
  (∀ (v0 : Nat) (v1 : Int32) (v2 : Int32) (s0 : Int32) (s1 : Nat) (M : gM), (kd M s1 = some (.inl 10) ∧ f_X10_throwsIf s1 s0 2 M (fun x15 M14 => if x15 = 0 then P46 v0 v1 v2 0 M14 else K 0 M14)) → P35 v0 v1 v2 s0 s1 M) →
  (∀ (v0 : Nat) (v1 : Int32) (v2 : Int32) (v3 : Int32) (M : gM), (kd M v0 = some (.inl 10) ∧ f_X10_lip v0 M (fun x19 M18 => if x19 ≤ v3 then K (-1) M18 else kd M18 v0 = some (.inl 10) ∧ f_X10_now v0 M18 (fun x23 M22 => kd M22 v0 = some (.inl 10) ∧ f_X10_outFrom v0 v1 v3 x23 M22 (fun x26 M25 => if x26 < 0 then P46 v0 v1 v2 (v3 + 1) M25 else kd M25 v0 = some (.inl 10) ∧ f_X10_now v0 M25 (fun x30 M29 => if (x30 + v2) < x26 then P46 v0 v1 v2 (v3 + 1) M29 else K v3 M29))))) → P46 v0 v1 v2 v3 M) →
  kd M a0 = some (.inl 10) ∧ ∀ M2, M2 = sI M a0 0 0 → kd M2 a0 = some (.inl 10) ∧ f_X10_noLane a0 a1 M2 (fun x5 M4 => kd M4 a0 = some (.inl 10) ∧ f_X10_throwsIf a0 x5 1 M4 (fun x8 M7 => if x8 = 0 then f_X10_in a2 1 299 M7 (fun x11 M10 => if x11 = 0 then P35 a0 a1 a2 1 a0 M10 else P35 a0 a1 a2 0 a0 M10) else K 0 M7))
set_option maxHeartbeats 4000000 in
theorem m_X10_hut {l : Launch} (hl : l.stackTraces = false) {G : gG} {a0 : Nat} {a1 : Int32} {a2 : Int32} {M : gM} {K : Int32 → gM → Prop} (hf : f_X10_hut a0 a1 a2 M K) : gMet l G yX10_hut (ws_ yX10_hut cX10_hut 5 (some Jvm.ClassFile.FieldType.int)) ({ frames := 7, cells := 0, slots := 0, locals := 169 }) M [.ref a0, .int a1, .int a2] (kI K) kN := by
  refine gm_of hl (ret := (some Jvm.ClassFile.FieldType.int)) rfl (Nat.le_of_ble_eq_true rfl) (fun X h hq => ?_)
  have h : hX l G X cX10_hut 5 "GlacierMailModel" 7 169 := h
  have hf := hf
  show V l G X 0 0 M 0 [(0, .ref a0), (1, .int a1), (2, .int a2)] []
  have hf := hf
    (fun v0 v1 v2 s0 s1 M => V l G X 0 0 M 35 [(0, .ref v0), (1, .int v1), (2, .int v2)] [.int s0, .ref s1])
    (fun v0 v1 v2 v3 M => V l G X 0 0 M 46 [(0, .ref v0), (1, .int v1), (2, .int v2), (3, .int v3)] [])
    (by
      intro v0 v1 v2 s0 s1 M hf
      show V l G X 0 0 M 35 [(0, .ref v0), (1, .int v1), (2, .int v2)] [.int s0, .ref s1]
      refine r_iconst (v := 2) h dX10_hut_35 (by decide) ?_
      obtain ⟨k13, hf⟩ := hf
      refine c1929 hl h dX10_hut_36 k13 hf (Nat.le_of_ble_eq_true rfl) (by decide) (by decide) (fun x15 M14 hf => ?_)
      refine r_if_eq (tgt := 44) h dX10_hut_39 (by decide) (fun c16 => ?_) (fun c16 => ?_)
      · have hf := ite_t c16 hf
        refine r_iconst (v := 0) h dX10_hut_44 (by decide) ?_
        refine r_istore_n (lv' := [(3, .int 0), (0, .ref v0), (1, .int v1), (2, .int v2)]) h dX10_hut_45 rfl (by decide) rfl ?_
        exact V.sub [1, 2, 3, 0] rfl hf
      · have hf := ite_f c16 hf
        refine r_iconst (v := 0) h dX10_hut_42 (by decide) ?_
        exact r_ireturn h hq dX10_hut_43 ⟨_, rfl, hf⟩)
    (by
      intro v0 v1 v2 v3 M hf
      show V l G X 0 0 M 46 [(0, .ref v0), (1, .int v1), (2, .int v2), (3, .int v3)] []
      refine r_iload_n h 3 dX10_hut_46 rfl rfl ?_
      refine r_aload_n h 0 dX10_hut_47 rfl rfl ?_
      obtain ⟨k17, hf⟩ := hf
      refine c1812 hl h dX10_hut_48 k17 hf (Nat.le_of_ble_eq_true rfl) (by decide) (by decide) (fun x19 M18 hf => ?_)
      refine r_icmp_ge (tgt := 90) h dX10_hut_51 (by decide) (fun c20 => ?_) (fun c20 => ?_)
      · have hf := ite_t c20 hf
        refine r_iconst (v := (-1)) h dX10_hut_90 (by decide) ?_
        exact r_ireturn h hq dX10_hut_91 ⟨_, rfl, hf⟩
      · have hf := ite_f c20 hf
        refine r_aload_n h 0 dX10_hut_54 rfl rfl ?_
        refine r_iload_n h 1 dX10_hut_55 rfl rfl ?_
        refine r_iload_n h 3 dX10_hut_56 rfl rfl ?_
        refine r_aload_n h 0 dX10_hut_57 rfl rfl ?_
        obtain ⟨k21, hf⟩ := hf
        refine c1843 hl h dX10_hut_58 k21 hf (Nat.le_of_ble_eq_true rfl) (by decide) (by decide) (fun x23 M22 hf => ?_)
        obtain ⟨k24, hf⟩ := hf
        refine c2101 hl h dX10_hut_61 k24 hf (Nat.le_of_ble_eq_true rfl) (by decide) (by decide) (fun x26 M25 hf => ?_)
        refine r_istore (lv' := [(4, .int x26), (0, .ref v0), (1, .int v1), (2, .int v2), (3, .int v3)]) h dX10_hut_64 (by decide) rfl ?_
        refine r_iload h 0 dX10_hut_66 rfl ?_
        refine r_if_lt (tgt := 84) h dX10_hut_68 (by decide) (fun c27 => ?_) (fun c27 => ?_)
        · have hf := ite_t c27 hf
          refine r_iinc (v := v3 + 1) (lv' := [(3, .int (v3 + 1)), (4, .int x26), (0, .ref v0), (1, .int v1), (2, .int v2)]) h 4 dX10_hut_84 rfl rfl (by decide) rfl ?_
          refine r_goto (tgt := 46) h dX10_hut_87 (by decide) ?_
          exact V.sub [2, 3, 4, 0] rfl hf
        · have hf := ite_f c27 hf
          refine r_iload h 0 dX10_hut_71 rfl ?_
          refine r_aload_n h 1 dX10_hut_73 rfl rfl ?_
          obtain ⟨k28, hf⟩ := hf
          refine c1843 hl h dX10_hut_74 k28 hf (Nat.le_of_ble_eq_true rfl) (by decide) (by decide) (fun x30 M29 hf => ?_)
          refine r_iload_n h 3 dX10_hut_77 rfl rfl ?_
          refine r_iadd h dX10_hut_78 ?_
          refine r_icmp_gt (tgt := 84) h dX10_hut_79 (by decide) (fun c31 => ?_) (fun c31 => ?_)
          · have hf := ite_t c31 hf
            refine r_iinc (v := v3 + 1) (lv' := [(3, .int (v3 + 1)), (4, .int x26), (0, .ref v0), (1, .int v1), (2, .int v2)]) h 4 dX10_hut_84 rfl rfl (by decide) rfl ?_
            refine r_goto (tgt := 46) h dX10_hut_87 (by decide) ?_
            exact V.sub [2, 3, 4, 0] rfl hf
          · have hf := ite_f c31 hf
            refine r_iload_n h 4 dX10_hut_82 rfl rfl ?_
            exact r_ireturn h hq dX10_hut_83 ⟨_, rfl, hf⟩)
  refine r_aload_n h 0 dX10_hut_0 rfl rfl ?_
  refine r_iconst (v := 0) h dX10_hut_1 (by decide) ?_
  obtain ⟨k1, hf⟩ := hf
  refine p1597 h dX10_hut_2 k1 ?_
  refine r_goW (fun M2 eM2 => ?_)
  have hf := hf M2 eM2
  refine r_aload_n h 0 dX10_hut_5 rfl rfl ?_
  refine r_aload_n h 0 dX10_hut_6 rfl rfl ?_
  refine r_iload_n h 1 dX10_hut_7 rfl rfl ?_
  obtain ⟨k3, hf⟩ := hf
  refine c1951 hl h dX10_hut_8 k3 hf (Nat.le_of_ble_eq_true rfl) (by decide) (by decide) (fun x5 M4 hf => ?_)
  refine r_iconst (v := 1) h dX10_hut_11 (by decide) ?_
  obtain ⟨k6, hf⟩ := hf
  refine c1929 hl h dX10_hut_12 k6 hf (Nat.le_of_ble_eq_true rfl) (by decide) (by decide) (fun x8 M7 hf => ?_)
  refine r_if_ne (tgt := 42) h dX10_hut_15 (by decide) (fun c9 => ?_) (fun c9 => ?_)
  · have hf := ite_f c9 hf
    refine r_iconst (v := 0) h dX10_hut_42 (by decide) ?_
    exact r_ireturn h hq dX10_hut_43 ⟨_, rfl, hf⟩
  · have hf := ite_t c9 hf
    refine r_aload_n h 0 dX10_hut_18 rfl rfl ?_
    refine r_iload_n h 2 dX10_hut_19 rfl rfl ?_
    refine r_iconst (v := 1) h dX10_hut_20 (by decide) ?_
    refine r_sipush (v := 299) h dX10_hut_21 (by decide) ?_
    refine c1944 hl h dX10_hut_24 hf (Nat.le_of_ble_eq_true rfl) (by decide) (by decide) (fun x11 M10 hf => ?_)
    refine r_if_ne (tgt := 34) h dX10_hut_27 (by decide) (fun c12 => ?_) (fun c12 => ?_)
    · have hf := ite_f c12 hf
      refine r_iconst (v := 0) h dX10_hut_34 (by decide) ?_
      exact V.sub [0, 1, 2] rfl hf
    · have hf := ite_t c12 hf
      refine r_iconst (v := 1) h dX10_hut_30 (by decide) ?_
      refine r_goto (tgt := 35) h dX10_hut_31 (by decide) ?_
      exact V.sub [0, 1, 2] rfl hf
theorem c2109 {l : Launch} {G : gG} {X : gX} {cc : ByteArray} {nL F L bc bs pc : Nat} {M : gM} {lv : List (Nat × Value)} {rest : List Value} {a0 : Nat} {a1 : Int32} {a2 : Int32} {K : Int32 → gM → Prop} (hl : l.stackTraces = false) (h : hX l G X cc nL "GlacierMailLaw" F L) (d : decode cc pc = .ok (.invokevirtual 210, 3)) (hk : kd M a0 = some (.inl 10)) (hf : f_X10_hut a0 a1 a2 M K) (hst : (rest.map fun v => v.category).sum ≤ 8) (hF : 8 ≤ F) (hL : 193 ≤ L) (kk : ∀ x M1, K x M1 → V l G X bc bs M1 (pc + 3) lv (.int x :: rest)) : V l G X bc bs M pc lv (.int a2 :: .int a1 :: .ref a0 :: rest) := r_callV (n := 2) (As := [.int a1, .int a2]) h (m_X10_hut hl hf) 10 rfl hk rfl ⟨by decide, by decide, by decide +kernel⟩ d q2109 q2110 q2111 q147 q2112 rfl rfl hst hF hL (Nat.zero_le _) (Nat.zero_le _) (kI_go kk) kN_go
def f_X10_without (a0 : Nat) (a1 : Int32) (a2 : Int32) (M : gM) (K : Int32 → gM → Prop) : Prop :=
  ∀ P35 : Nat → Int32 → Int32 → Int32 → Nat → gM → Prop,
  (∀ (v0 : Nat) (v1 : Int32) (v2 : Int32) (s0 : Int32) (s1 : Nat) (M : gM), (kd M s1 = some (.inl 10) ∧ f_X10_throwsIf s1 s0 1 M (fun x16 M15 => if x16 = 0 then kd M15 v0 = some (.inl 10) ∧ f_X10_runsLetter v0 v1 v2 M15 (fun M19 => kd M19 v0 = some (.inl 10) ∧ K (iv M19 v0 29) M19) else K 0 M15)) → P35 v0 v1 v2 s0 s1 M) →
  kd M a0 = some (.inl 10) ∧ ∀ M2, M2 = sI M a0 0 0 → kd M2 a0 = some (.inl 10) ∧ f_X10_noLetter a0 a1 M2 (fun x5 M4 => if x5 = 0 then kd M4 a0 = some (.inl 10) ∧ ∃ b8, rv M4 a0 1 = some b8 ∧ inA M4 b8 0 5 ∧ f_X10_in a2 0 ((iv M4 b8 (ix 5)) - 1) M4 (fun x12 M11 => if x12 = 0 then P35 a0 a1 a2 1 a0 M11 else P35 a0 a1 a2 0 a0 M11) else P35 a0 a1 a2 1 a0 M4)
set_option maxHeartbeats 4000000 in
theorem m_X10_without {l : Launch} (hl : l.stackTraces = false) {G : gG} {a0 : Nat} {a1 : Int32} {a2 : Int32} {M : gM} {K : Int32 → gM → Prop} (hf : f_X10_without a0 a1 a2 M K) : gMet l G yX10_without (ws_ yX10_without cX10_without 3 (some Jvm.ClassFile.FieldType.int)) ({ frames := 7, cells := 0, slots := 0, locals := 168 }) M [.ref a0, .int a1, .int a2] (kI K) kN := by
  refine gm_of hl (ret := (some Jvm.ClassFile.FieldType.int)) rfl (Nat.le_of_ble_eq_true rfl) (fun X h hq => ?_)
  have h : hX l G X cX10_without 3 "GlacierMailModel" 7 168 := h
  have hf := hf
  show V l G X 0 0 M 0 [(0, .ref a0), (1, .int a1), (2, .int a2)] []
  have hf := hf
    (fun v0 v1 v2 s0 s1 M => V l G X 0 0 M 35 [(0, .ref v0), (1, .int v1), (2, .int v2)] [.int s0, .ref s1])
    (by
      intro v0 v1 v2 s0 s1 M hf
      show V l G X 0 0 M 35 [(0, .ref v0), (1, .int v1), (2, .int v2)] [.int s0, .ref s1]
      refine r_iconst (v := 1) h dX10_without_35 (by decide) ?_
      obtain ⟨k14, hf⟩ := hf
      refine c1929 hl h dX10_without_36 k14 hf (Nat.le_of_ble_eq_true rfl) (by decide) (by decide) (fun x16 M15 hf => ?_)
      refine r_if_eq (tgt := 44) h dX10_without_39 (by decide) (fun c17 => ?_) (fun c17 => ?_)
      · have hf := ite_t c17 hf
        refine r_aload_n h 0 dX10_without_44 rfl rfl ?_
        refine r_iload_n h 1 dX10_without_45 rfl rfl ?_
        refine r_iload_n h 2 dX10_without_46 rfl rfl ?_
        obtain ⟨k18, hf⟩ := hf
        refine c2021 hl h dX10_without_47 k18 hf (Nat.le_of_ble_eq_true rfl) (by decide) (by decide) (fun M19 hf => ?_)
        refine r_aload_n h 0 dX10_without_50 rfl rfl ?_
        obtain ⟨k20, hf⟩ := hf
        refine g1626 h dX10_without_51 k20 ?_
        exact r_ireturn h hq dX10_without_54 ⟨_, rfl, hf⟩
      · have hf := ite_f c17 hf
        refine r_iconst (v := 0) h dX10_without_42 (by decide) ?_
        exact r_ireturn h hq dX10_without_43 ⟨_, rfl, hf⟩)
  refine r_aload_n h 0 dX10_without_0 rfl rfl ?_
  refine r_iconst (v := 0) h dX10_without_1 (by decide) ?_
  obtain ⟨k1, hf⟩ := hf
  refine p1597 h dX10_without_2 k1 ?_
  refine r_goW (fun M2 eM2 => ?_)
  have hf := hf M2 eM2
  refine r_aload_n h 0 dX10_without_5 rfl rfl ?_
  refine r_aload_n h 0 dX10_without_6 rfl rfl ?_
  refine r_iload_n h 1 dX10_without_7 rfl rfl ?_
  obtain ⟨k3, hf⟩ := hf
  refine c2037 hl h dX10_without_8 k3 hf (Nat.le_of_ble_eq_true rfl) (by decide) (by decide) (fun x5 M4 hf => ?_)
  refine r_if_ne (tgt := 30) h dX10_without_11 (by decide) (fun c6 => ?_) (fun c6 => ?_)
  · have hf := ite_f c6 hf
    refine r_iconst (v := 1) h dX10_without_30 (by decide) ?_
    refine r_goto (tgt := 35) h dX10_without_31 (by decide) ?_
    exact V.sub [0, 1, 2] rfl hf
  · have hf := ite_t c6 hf
    refine r_iload_n h 2 dX10_without_14 rfl rfl ?_
    refine r_iconst (v := 0) h dX10_without_15 (by decide) ?_
    refine r_aload_n h 0 dX10_without_16 rfl rfl ?_
    obtain ⟨k7, hf⟩ := hf
    obtain ⟨b8, e9, hf⟩ := hf
    refine g1598 h dX10_without_17 k7 e9 ?_
    refine r_iconst (v := 5) h dX10_without_20 (by decide) ?_
    obtain ⟨j10, hf⟩ := hf
    refine r_iaload h dX10_without_21 j10 ?_
    refine r_iconst (v := 1) h dX10_without_22 (by decide) ?_
    refine r_isub h dX10_without_23 ?_
    refine c1944 hl h dX10_without_24 hf (Nat.le_of_ble_eq_true rfl) (by decide) (by decide) (fun x12 M11 hf => ?_)
    refine r_if_ne (tgt := 34) h dX10_without_27 (by decide) (fun c13 => ?_) (fun c13 => ?_)
    · have hf := ite_f c13 hf
      refine r_iconst (v := 0) h dX10_without_34 (by decide) ?_
      exact V.sub [0, 1, 2] rfl hf
    · have hf := ite_t c13 hf
      refine r_iconst (v := 1) h dX10_without_30 (by decide) ?_
      refine r_goto (tgt := 35) h dX10_without_31 (by decide) ?_
      exact V.sub [0, 1, 2] rfl hf
theorem c2113 {l : Launch} {G : gG} {X : gX} {cc : ByteArray} {nL F L bc bs pc : Nat} {M : gM} {lv : List (Nat × Value)} {rest : List Value} {a0 : Nat} {a1 : Int32} {a2 : Int32} {K : Int32 → gM → Prop} (hl : l.stackTraces = false) (h : hX l G X cc nL "GlacierMailLaw" F L) (d : decode cc pc = .ok (.invokevirtual 213, 3)) (hk : kd M a0 = some (.inl 10)) (hf : f_X10_without a0 a1 a2 M K) (hst : (rest.map fun v => v.category).sum ≤ 8) (hF : 8 ≤ F) (hL : 190 ≤ L) (kk : ∀ x M1, K x M1 → V l G X bc bs M1 (pc + 3) lv (.int x :: rest)) : V l G X bc bs M pc lv (.int a2 :: .int a1 :: .ref a0 :: rest) := r_callV (n := 2) (As := [.int a1, .int a2]) h (m_X10_without hl hf) 10 rfl hk rfl ⟨by decide, by decide, by decide +kernel⟩ d q2113 q2114 q2115 q147 q2116 rfl rfl hst hF hL (Nat.zero_le _) (Nat.zero_le _) (kI_go kk) kN_go
def f_X10_moved (a0 : Nat) (a1 : Int32) (M : gM) (K : Int32 → gM → Prop) : Prop :=
  kd M a0 = some (.inl 10) ∧ ∀ M2, M2 = sI M a0 0 0 → kd M2 a0 = some (.inl 10) ∧ f_X10_noLetter a0 a1 M2 (fun x5 M4 => kd M4 a0 = some (.inl 10) ∧ f_X10_throwsIf a0 x5 1 M4 (fun x8 M7 => if x8 = 0 then kd M7 a0 = some (.inl 10) ∧ f_X10_runsLetter a0 a1 (-1) M7 (fun M11 => kd M11 a0 = some (.inl 10) ∧ K (iv M11 a0 30) M11) else K 0 M7))
set_option maxHeartbeats 4000000 in
theorem m_X10_moved {l : Launch} (hl : l.stackTraces = false) {G : gG} {a0 : Nat} {a1 : Int32} {M : gM} {K : Int32 → gM → Prop} (hf : f_X10_moved a0 a1 M K) : gMet l G yX10_moved (ws_ yX10_moved cX10_moved 2 (some Jvm.ClassFile.FieldType.int)) ({ frames := 7, cells := 0, slots := 0, locals := 168 }) M [.ref a0, .int a1] (kI K) kN := by
  refine gm_of hl (ret := (some Jvm.ClassFile.FieldType.int)) rfl (Nat.le_of_ble_eq_true rfl) (fun X h hq => ?_)
  have h : hX l G X cX10_moved 2 "GlacierMailModel" 7 168 := h
  have hf := hf
  show V l G X 0 0 M 0 [(0, .ref a0), (1, .int a1)] []
  unfold f_X10_moved at hf
  refine r_aload_n h 0 dX10_moved_0 rfl rfl ?_
  refine r_iconst (v := 0) h dX10_moved_1 (by decide) ?_
  obtain ⟨k1, hf⟩ := hf
  refine p1597 h dX10_moved_2 k1 ?_
  refine r_goW (fun M2 eM2 => ?_)
  have hf := hf M2 eM2
  refine r_aload_n h 0 dX10_moved_5 rfl rfl ?_
  refine r_aload_n h 0 dX10_moved_6 rfl rfl ?_
  refine r_iload_n h 1 dX10_moved_7 rfl rfl ?_
  obtain ⟨k3, hf⟩ := hf
  refine c2037 hl h dX10_moved_8 k3 hf (Nat.le_of_ble_eq_true rfl) (by decide) (by decide) (fun x5 M4 hf => ?_)
  refine r_iconst (v := 1) h dX10_moved_11 (by decide) ?_
  obtain ⟨k6, hf⟩ := hf
  refine c1929 hl h dX10_moved_12 k6 hf (Nat.le_of_ble_eq_true rfl) (by decide) (by decide) (fun x8 M7 hf => ?_)
  refine r_if_eq (tgt := 20) h dX10_moved_15 (by decide) (fun c9 => ?_) (fun c9 => ?_)
  · have hf := ite_t c9 hf
    refine r_aload_n h 0 dX10_moved_20 rfl rfl ?_
    refine r_iload_n h 1 dX10_moved_21 rfl rfl ?_
    refine r_iconst (v := (-1)) h dX10_moved_22 (by decide) ?_
    obtain ⟨k10, hf⟩ := hf
    refine c2021 hl h dX10_moved_23 k10 hf (Nat.le_of_ble_eq_true rfl) (by decide) (by decide) (fun M11 hf => ?_)
    refine r_aload_n h 0 dX10_moved_26 rfl rfl ?_
    obtain ⟨k12, hf⟩ := hf
    refine g1627 h dX10_moved_27 k12 ?_
    exact r_ireturn h hq dX10_moved_30 ⟨_, rfl, hf⟩
  · have hf := ite_f c9 hf
    refine r_iconst (v := 0) h dX10_moved_18 (by decide) ?_
    exact r_ireturn h hq dX10_moved_19 ⟨_, rfl, hf⟩
theorem c2117 {l : Launch} {G : gG} {X : gX} {cc : ByteArray} {nL F L bc bs pc : Nat} {M : gM} {lv : List (Nat × Value)} {rest : List Value} {a0 : Nat} {a1 : Int32} {K : Int32 → gM → Prop} (hl : l.stackTraces = false) (h : hX l G X cc nL "GlacierMailLaw" F L) (d : decode cc pc = .ok (.invokevirtual 216, 3)) (hk : kd M a0 = some (.inl 10)) (hf : f_X10_moved a0 a1 M K) (hst : (rest.map fun v => v.category).sum ≤ 8) (hF : 8 ≤ F) (hL : 189 ≤ L) (kk : ∀ x M1, K x M1 → V l G X bc bs M1 (pc + 3) lv (.int x :: rest)) : V l G X bc bs M pc lv (.int a1 :: .ref a0 :: rest) := r_callV (n := 1) (As := [.int a1]) h (m_X10_moved hl hf) 10 rfl hk rfl ⟨by decide, by decide, by decide +kernel⟩ d q2117 q2118 q2119 q147 q2120 rfl rfl hst hF hL (Nat.zero_le _) (Nat.zero_le _) (kI_go kk) kN_go
def f_X10_lost (a0 : Nat) (M : gM) (K : Int32 → gM → Prop) : Prop :=
  ∀ P9 : Nat → Int32 → Int32 → gM → Prop,
  (∀ (v0 : Nat) (v1 : Int32) (v2 : Int32) (M : gM), (kd M v0 = some (.inl 10) ∧ f_X10_letters v0 M (fun x5 M4 => if x5 ≤ v2 then K v1 M4 else kd M4 v0 = some (.inl 10) ∧ f_X10_outOf v0 v2 M4 (fun x9 M8 => if 0 ≤ x9 then P9 v0 (v1 ||| 0) (v2 + 1) M8 else P9 v0 (v1 ||| ((1 : Int32) <<< (v2 &&& 31))) (v2 + 1) M8))) → P9 v0 v1 v2 M) →
  kd M a0 = some (.inl 10) ∧ ∀ M2, M2 = sI M a0 0 0 → P9 a0 0 0 M2
set_option maxHeartbeats 4000000 in
theorem m_X10_lost {l : Launch} (hl : l.stackTraces = false) {G : gG} {a0 : Nat} {M : gM} {K : Int32 → gM → Prop} (hf : f_X10_lost a0 M K) : gMet l G yX10_lost (ws_ yX10_lost cX10_lost 3 (some Jvm.ClassFile.FieldType.int)) ({ frames := 8, cells := 0, slots := 0, locals := 189 }) M [.ref a0] (kI K) kN := by
  refine gm_of hl (ret := (some Jvm.ClassFile.FieldType.int)) rfl (Nat.le_of_ble_eq_true rfl) (fun X h hq => ?_)
  have h : hX l G X cX10_lost 3 "GlacierMailModel" 8 189 := h
  have hf := hf
  show V l G X 0 0 M 0 [(0, .ref a0)] []
  have hf := hf
    (fun v0 v1 v2 M => V l G X 0 0 M 9 [(0, .ref v0), (1, .int v1), (2, .int v2)] [])
    (by
      intro v0 v1 v2 M hf
      show V l G X 0 0 M 9 [(0, .ref v0), (1, .int v1), (2, .int v2)] []
      refine r_iload_n h 2 dX10_lost_9 rfl rfl ?_
      refine r_aload_n h 0 dX10_lost_10 rfl rfl ?_
      obtain ⟨k3, hf⟩ := hf
      refine c1790 hl h dX10_lost_11 k3 hf (Nat.le_of_ble_eq_true rfl) (by decide) (by decide) (fun x5 M4 hf => ?_)
      refine r_icmp_ge (tgt := 41) h dX10_lost_14 (by decide) (fun c6 => ?_) (fun c6 => ?_)
      · have hf := ite_t c6 hf
        refine r_iload_n h 1 dX10_lost_41 rfl rfl ?_
        exact r_ireturn h hq dX10_lost_42 ⟨_, rfl, hf⟩
      · have hf := ite_f c6 hf
        refine r_iload_n h 1 dX10_lost_17 rfl rfl ?_
        refine r_aload_n h 0 dX10_lost_18 rfl rfl ?_
        refine r_iload_n h 2 dX10_lost_19 rfl rfl ?_
        obtain ⟨k7, hf⟩ := hf
        refine c2017 hl h dX10_lost_20 k7 hf (Nat.le_of_ble_eq_true rfl) (by decide) (by decide) (fun x9 M8 hf => ?_)
        refine r_if_ge (tgt := 32) h dX10_lost_23 (by decide) (fun c10 => ?_) (fun c10 => ?_)
        · have hf := ite_t c10 hf
          refine r_iconst (v := 0) h dX10_lost_32 (by decide) ?_
          refine r_ior h dX10_lost_33 ?_
          refine r_istore_n (lv' := [(1, .int (v1 ||| 0)), (0, .ref v0), (2, .int v2)]) h dX10_lost_34 rfl (by decide) rfl ?_
          refine r_iinc (v := v2 + 1) (lv' := [(2, .int (v2 + 1)), (1, .int (v1 ||| 0)), (0, .ref v0)]) h 2 dX10_lost_35 rfl rfl (by decide) rfl ?_
          refine r_goto (tgt := 9) h dX10_lost_38 (by decide) ?_
          exact V.sub [2, 1, 0] rfl hf
        · have hf := ite_f c10 hf
          refine r_iconst (v := 1) h dX10_lost_26 (by decide) ?_
          refine r_iload_n h 2 dX10_lost_27 rfl rfl ?_
          refine r_ishl h dX10_lost_28 ?_
          refine r_goto (tgt := 33) h dX10_lost_29 (by decide) ?_
          refine r_ior h dX10_lost_33 ?_
          refine r_istore_n (lv' := [(1, .int (v1 ||| ((1 : Int32) <<< (v2 &&& 31)))), (0, .ref v0), (2, .int v2)]) h dX10_lost_34 rfl (by decide) rfl ?_
          refine r_iinc (v := v2 + 1) (lv' := [(2, .int (v2 + 1)), (1, .int (v1 ||| ((1 : Int32) <<< (v2 &&& 31)))), (0, .ref v0)]) h 2 dX10_lost_35 rfl rfl (by decide) rfl ?_
          refine r_goto (tgt := 9) h dX10_lost_38 (by decide) ?_
          exact V.sub [2, 1, 0] rfl hf)
  refine r_aload_n h 0 dX10_lost_0 rfl rfl ?_
  refine r_iconst (v := 0) h dX10_lost_1 (by decide) ?_
  obtain ⟨k1, hf⟩ := hf
  refine p1597 h dX10_lost_2 k1 ?_
  refine r_goW (fun M2 eM2 => ?_)
  have hf := hf M2 eM2
  refine r_iconst (v := 0) h dX10_lost_5 (by decide) ?_
  refine r_istore_n (lv' := [(1, .int 0), (0, .ref a0)]) h dX10_lost_6 rfl (by decide) rfl ?_
  refine r_iconst (v := 0) h dX10_lost_7 (by decide) ?_
  refine r_istore_n (lv' := [(2, .int 0), (1, .int 0), (0, .ref a0)]) h dX10_lost_8 rfl (by decide) rfl ?_
  exact V.sub [2, 1, 0] rfl hf
theorem c2121 {l : Launch} {G : gG} {X : gX} {cc : ByteArray} {nL F L bc bs pc : Nat} {M : gM} {lv : List (Nat × Value)} {rest : List Value} {a0 : Nat} {K : Int32 → gM → Prop} (hl : l.stackTraces = false) (h : hX l G X cc nL "GlacierMailLaw" F L) (d : decode cc pc = .ok (.invokevirtual 220, 3)) (hk : kd M a0 = some (.inl 10)) (hf : f_X10_lost a0 M K) (hst : (rest.map fun v => v.category).sum ≤ 8) (hF : 9 ≤ F) (hL : 211 ≤ L) (kk : ∀ x M1, K x M1 → V l G X bc bs M1 (pc + 3) lv (.int x :: rest)) : V l G X bc bs M pc lv (.ref a0 :: rest) := r_callV (n := 0) (As := []) h (m_X10_lost hl hf) 10 rfl hk rfl ⟨by decide, by decide, by decide +kernel⟩ d q2121 q2122 q2123 q147 q2124 rfl rfl hst hF hL (Nat.zero_le _) (Nat.zero_le _) (kI_go kk) kN_go
def f_X10_outsAll (a0 : Nat) (M : gM) (K : gM → Prop) : Prop :=
  ∀ P2 : Nat → Int32 → gM → Prop,
  (∀ (v0 : Nat) (v1 : Int32) (M : gM), (kd M v0 = some (.inl 10) ∧ f_X10_letters v0 M (fun x3 M2 => if x3 ≤ v1 then K M2 else kd M2 v0 = some (.inl 10) ∧ ∃ b6, rv M2 v0 31 = some b6 ∧ f_X10_outOf v0 v1 M2 (fun x9 M8 => inA M8 b6 0 v1 ∧ ∀ M11, M11 = sI M8 b6 (ix v1) x9 → P2 v0 (v1 + 1) M11))) → P2 v0 v1 M) →
  P2 a0 0 M
set_option maxHeartbeats 4000000 in
theorem m_X10_outsAll {l : Launch} (hl : l.stackTraces = false) {G : gG} {a0 : Nat} {M : gM} {K : gM → Prop} (hf : f_X10_outsAll a0 M K) : gMet l G yX10_outsAll (ws_ yX10_outsAll cX10_outsAll 2 none) ({ frames := 8, cells := 0, slots := 0, locals := 189 }) M [.ref a0] (kV K) kN := by
  refine gm_of hl (ret := none) rfl (Nat.le_of_ble_eq_true rfl) (fun X h hq => ?_)
  have h : hX l G X cX10_outsAll 2 "GlacierMailModel" 8 189 := h
  have hf := hf
  show V l G X 0 0 M 0 [(0, .ref a0)] []
  have hf := hf
    (fun v0 v1 M => V l G X 0 0 M 2 [(0, .ref v0), (1, .int v1)] [])
    (by
      intro v0 v1 M hf
      show V l G X 0 0 M 2 [(0, .ref v0), (1, .int v1)] []
      refine r_iload_n h 1 dX10_outsAll_2 rfl rfl ?_
      refine r_aload_n h 0 dX10_outsAll_3 rfl rfl ?_
      obtain ⟨k1, hf⟩ := hf
      refine c1790 hl h dX10_outsAll_4 k1 hf (Nat.le_of_ble_eq_true rfl) (by decide) (by decide) (fun x3 M2 hf => ?_)
      refine r_icmp_ge (tgt := 27) h dX10_outsAll_7 (by decide) (fun c4 => ?_) (fun c4 => ?_)
      · have hf := ite_t c4 hf
        exact r_return h hq dX10_outsAll_27 ⟨rfl, hf⟩
      · have hf := ite_f c4 hf
        refine r_aload_n h 0 dX10_outsAll_10 rfl rfl ?_
        obtain ⟨k5, hf⟩ := hf
        obtain ⟨b6, e7, hf⟩ := hf
        refine g1628 h dX10_outsAll_11 k5 e7 ?_
        refine r_iload_n h 1 dX10_outsAll_14 rfl rfl ?_
        refine r_aload_n h 0 dX10_outsAll_15 rfl rfl ?_
        refine r_iload_n h 1 dX10_outsAll_16 rfl rfl ?_
        refine c2017 hl h dX10_outsAll_17 k5 hf (Nat.le_of_ble_eq_true rfl) (by decide) (by decide) (fun x9 M8 hf => ?_)
        obtain ⟨j10, hf⟩ := hf
        refine r_iastore h dX10_outsAll_20 j10 ?_
        refine r_goW (fun M11 eM11 => ?_)
        have hf := hf M11 eM11
        refine r_iinc (v := v1 + 1) (lv' := [(1, .int (v1 + 1)), (0, .ref v0)]) h 1 dX10_outsAll_21 rfl rfl (by decide) rfl ?_
        refine r_goto (tgt := 2) h dX10_outsAll_24 (by decide) ?_
        exact V.sub [1, 0] rfl hf)
  refine r_iconst (v := 0) h dX10_outsAll_0 (by decide) ?_
  refine r_istore_n (lv' := [(1, .int 0), (0, .ref a0)]) h dX10_outsAll_1 rfl (by decide) rfl ?_
  exact V.sub [1, 0] rfl hf
theorem c2129 {l : Launch} {G : gG} {X : gX} {cc : ByteArray} {nL F L bc bs pc : Nat} {M : gM} {lv : List (Nat × Value)} {rest : List Value} {a0 : Nat} {K : gM → Prop} (hl : l.stackTraces = false) (h : hX l G X cc nL "GlacierMailModel" F L) (d : decode cc pc = .ok (.invokevirtual 428, 3)) (hk : kd M a0 = some (.inl 10)) (hf : f_X10_outsAll a0 M K) (hst : (rest.map fun v => v.category).sum ≤ 8) (hF : 9 ≤ F) (hL : 210 ≤ L) (kk : ∀ M1, K M1 → V l G X bc bs M1 (pc + 3) lv rest) : V l G X bc bs M pc lv (.ref a0 :: rest) := r_callV (n := 0) (As := []) h (m_X10_outsAll hl hf) 10 rfl hk rfl ⟨by decide, by decide, by decide +kernel⟩ d q2129 q2131 qs120 q147 q2132 rfl rfl hst hF hL (Nat.zero_le _) (Nat.zero_le _) (kV_go kk) kN_go
def f_X10_outsIn (a0 : Nat) (a1 : Int32) (a2 : Int32) (a3 : Int32) (M : gM) (K : Int32 → gM → Prop) : Prop :=
  ∀ P6 : Nat → Int32 → Int32 → Int32 → Int32 → Int32 → gM → Prop,
  ∀ P43 : Nat → Int32 → Int32 → Int32 → Int32 → Int32 → gM → Prop,
  (∀ (v0 : Nat) (v1 : Int32) (v2 : Int32) (v3 : Int32) (v4 : Int32) (v5 : Int32) (M : gM), (kd M v0 = some (.inl 10) ∧ f_X10_letters v0 M (fun x3 M2 => if x3 ≤ v5 then K v4 M2 else kd M2 v0 = some (.inl 10) ∧ ∃ b6, rv M2 v0 31 = some b6 ∧ inA M2 b6 0 v5 ∧ if (iv M2 b6 (ix v5)) = v1 then if v2 < 0 then P43 v0 v1 v2 v3 v5 v4 M2 else f_X10_ofLetter v0 v5 2 M2 (fun x12 M11 => if x12 = v2 then P43 v0 v1 v2 v3 v5 v4 M11 else P6 v0 v1 v2 v3 (v4 + 0) (v5 + 1) M11) else P6 v0 v1 v2 v3 (v4 + 0) (v5 + 1) M2)) → P6 v0 v1 v2 v3 v4 v5 M) →
  (∀ (v0 : Nat) (v1 : Int32) (v2 : Int32) (v3 : Int32) (v5 : Int32) (s0 : Int32) (M : gM), (if v3 = 0 then kd M v0 = some (.inl 10) ∧ f_X10_isRock v0 v5 M (fun x17 M16 => if x17 = 0 then P6 v0 v1 v2 v3 (s0 + 1) (v5 + 1) M16 else P6 v0 v1 v2 v3 (s0 + 0) (v5 + 1) M16) else P6 v0 v1 v2 v3 (s0 + 1) (v5 + 1) M) → P43 v0 v1 v2 v3 v5 s0 M) →
  P6 a0 a1 a2 a3 0 0 M
set_option maxHeartbeats 4000000 in
theorem m_X10_outsIn {l : Launch} (hl : l.stackTraces = false) {G : gG} {a0 : Nat} {a1 : Int32} {a2 : Int32} {a3 : Int32} {M : gM} {K : Int32 → gM → Prop} (hf : f_X10_outsIn a0 a1 a2 a3 M K) : gMet l G yX10_outsIn (ws_ yX10_outsIn cX10_outsIn 6 (some Jvm.ClassFile.FieldType.int)) ({ frames := 2, cells := 0, slots := 0, locals := 43 }) M [.ref a0, .int a1, .int a2, .int a3] (kI K) kN := by
  refine gm_of hl (ret := (some Jvm.ClassFile.FieldType.int)) rfl (Nat.le_of_ble_eq_true rfl) (fun X h hq => ?_)
  have h : hX l G X cX10_outsIn 6 "GlacierMailModel" 2 43 := h
  have hf := hf
  show V l G X 0 0 M 0 [(0, .ref a0), (1, .int a1), (2, .int a2), (3, .int a3)] []
  have hf := hf
    (fun v0 v1 v2 v3 v4 v5 M => V l G X 0 0 M 6 [(0, .ref v0), (1, .int v1), (2, .int v2), (3, .int v3), (4, .int v4), (5, .int v5)] [])
    (fun v0 v1 v2 v3 v5 s0 M => V l G X 0 0 M 43 [(0, .ref v0), (1, .int v1), (2, .int v2), (3, .int v3), (5, .int v5)] [.int s0])
    (by
      intro v0 v1 v2 v3 v4 v5 M hf
      show V l G X 0 0 M 6 [(0, .ref v0), (1, .int v1), (2, .int v2), (3, .int v3), (4, .int v4), (5, .int v5)] []
      refine r_iload h 5 dX10_outsIn_6 rfl ?_
      refine r_aload_n h 0 dX10_outsIn_8 rfl rfl ?_
      obtain ⟨k1, hf⟩ := hf
      refine c1790 hl h dX10_outsIn_9 k1 hf (Nat.le_of_ble_eq_true rfl) (by decide) (by decide) (fun x3 M2 hf => ?_)
      refine r_icmp_ge (tgt := 70) h dX10_outsIn_12 (by decide) (fun c4 => ?_) (fun c4 => ?_)
      · have hf := ite_t c4 hf
        refine r_iload h 4 dX10_outsIn_70 rfl ?_
        exact r_ireturn h hq dX10_outsIn_72 ⟨_, rfl, hf⟩
      · have hf := ite_f c4 hf
        refine r_iload h 4 dX10_outsIn_15 rfl ?_
        refine r_aload_n h 0 dX10_outsIn_17 rfl rfl ?_
        obtain ⟨k5, hf⟩ := hf
        obtain ⟨b6, e7, hf⟩ := hf
        refine g1628 h dX10_outsIn_18 k5 e7 ?_
        refine r_iload h 5 dX10_outsIn_21 rfl ?_
        obtain ⟨j8, hf⟩ := hf
        refine r_iaload h dX10_outsIn_23 j8 ?_
        refine r_iload_n h 1 dX10_outsIn_24 rfl rfl ?_
        refine r_icmp_ne (tgt := 60) h dX10_outsIn_25 (by decide) (fun c9 => ?_) (fun c9 => ?_)
        · have hf := ite_f c9 hf
          refine r_iconst (v := 0) h dX10_outsIn_60 (by decide) ?_
          refine r_iadd h dX10_outsIn_61 ?_
          refine r_istore (lv' := [(4, .int (v4 + 0)), (0, .ref v0), (1, .int v1), (2, .int v2), (3, .int v3), (5, .int v5)]) h dX10_outsIn_62 (by decide) rfl ?_
          refine r_iinc (v := v5 + 1) (lv' := [(5, .int (v5 + 1)), (4, .int (v4 + 0)), (0, .ref v0), (1, .int v1), (2, .int v2), (3, .int v3)]) h 5 dX10_outsIn_64 rfl rfl (by decide) rfl ?_
          refine r_goto (tgt := 6) h dX10_outsIn_67 (by decide) ?_
          exact V.sub [2, 3, 4, 5, 1, 0] rfl hf
        · have hf := ite_t c9 hf
          refine r_iload_n h 2 dX10_outsIn_28 rfl rfl ?_
          refine r_if_lt (tgt := 43) h dX10_outsIn_29 (by decide) (fun c10 => ?_) (fun c10 => ?_)
          · have hf := ite_t c10 hf
            exact V.sub [0, 1, 2, 3, 5] rfl hf
          · have hf := ite_f c10 hf
            refine r_aload_n h 0 dX10_outsIn_32 rfl rfl ?_
            refine r_iload h 5 dX10_outsIn_33 rfl ?_
            refine r_iconst (v := 2) h dX10_outsIn_35 (by decide) ?_
            refine c2005 hl h dX10_outsIn_36 k5 hf (Nat.le_of_ble_eq_true rfl) (by decide) (by decide) (fun x12 M11 hf => ?_)
            refine r_iload_n h 2 dX10_outsIn_39 rfl rfl ?_
            refine r_icmp_ne (tgt := 60) h dX10_outsIn_40 (by decide) (fun c13 => ?_) (fun c13 => ?_)
            · have hf := ite_f c13 hf
              refine r_iconst (v := 0) h dX10_outsIn_60 (by decide) ?_
              refine r_iadd h dX10_outsIn_61 ?_
              refine r_istore (lv' := [(4, .int (v4 + 0)), (0, .ref v0), (1, .int v1), (2, .int v2), (3, .int v3), (5, .int v5)]) h dX10_outsIn_62 (by decide) rfl ?_
              refine r_iinc (v := v5 + 1) (lv' := [(5, .int (v5 + 1)), (4, .int (v4 + 0)), (0, .ref v0), (1, .int v1), (2, .int v2), (3, .int v3)]) h 5 dX10_outsIn_64 rfl rfl (by decide) rfl ?_
              refine r_goto (tgt := 6) h dX10_outsIn_67 (by decide) ?_
              exact V.sub [2, 3, 4, 5, 1, 0] rfl hf
            · have hf := ite_t c13 hf
              exact V.sub [0, 1, 2, 3, 5] rfl hf)
    (by
      intro v0 v1 v2 v3 v5 s0 M hf
      show V l G X 0 0 M 43 [(0, .ref v0), (1, .int v1), (2, .int v2), (3, .int v3), (5, .int v5)] [.int s0]
      refine r_iload_n h 3 dX10_outsIn_43 rfl rfl ?_
      refine r_if_ne (tgt := 56) h dX10_outsIn_44 (by decide) (fun c14 => ?_) (fun c14 => ?_)
      · have hf := ite_f c14 hf
        refine r_iconst (v := 1) h dX10_outsIn_56 (by decide) ?_
        refine r_goto (tgt := 61) h dX10_outsIn_57 (by decide) ?_
        refine r_iadd h dX10_outsIn_61 ?_
        refine r_istore (lv' := [(4, .int (s0 + 1)), (0, .ref v0), (1, .int v1), (2, .int v2), (3, .int v3), (5, .int v5)]) h dX10_outsIn_62 (by decide) rfl ?_
        refine r_iinc (v := v5 + 1) (lv' := [(5, .int (v5 + 1)), (4, .int (s0 + 1)), (0, .ref v0), (1, .int v1), (2, .int v2), (3, .int v3)]) h 5 dX10_outsIn_64 rfl rfl (by decide) rfl ?_
        refine r_goto (tgt := 6) h dX10_outsIn_67 (by decide) ?_
        exact V.sub [2, 3, 4, 5, 1, 0] rfl hf
      · have hf := ite_t c14 hf
        refine r_aload_n h 0 dX10_outsIn_47 rfl rfl ?_
        refine r_iload h 4 dX10_outsIn_48 rfl ?_
        obtain ⟨k15, hf⟩ := hf
        refine c2013 hl h dX10_outsIn_50 k15 hf (Nat.le_of_ble_eq_true rfl) (by decide) (by decide) (fun x17 M16 hf => ?_)
        refine r_if_ne (tgt := 60) h dX10_outsIn_53 (by decide) (fun c18 => ?_) (fun c18 => ?_)
        · have hf := ite_f c18 hf
          refine r_iconst (v := 0) h dX10_outsIn_60 (by decide) ?_
          refine r_iadd h dX10_outsIn_61 ?_
          refine r_istore (lv' := [(4, .int (s0 + 0)), (0, .ref v0), (1, .int v1), (2, .int v2), (3, .int v3), (5, .int v5)]) h dX10_outsIn_62 (by decide) rfl ?_
          refine r_iinc (v := v5 + 1) (lv' := [(5, .int (v5 + 1)), (4, .int (s0 + 0)), (0, .ref v0), (1, .int v1), (2, .int v2), (3, .int v3)]) h 5 dX10_outsIn_64 rfl rfl (by decide) rfl ?_
          refine r_goto (tgt := 6) h dX10_outsIn_67 (by decide) ?_
          exact V.sub [2, 3, 4, 5, 1, 0] rfl hf
        · have hf := ite_t c18 hf
          refine r_iconst (v := 1) h dX10_outsIn_56 (by decide) ?_
          refine r_goto (tgt := 61) h dX10_outsIn_57 (by decide) ?_
          refine r_iadd h dX10_outsIn_61 ?_
          refine r_istore (lv' := [(4, .int (s0 + 1)), (0, .ref v0), (1, .int v1), (2, .int v2), (3, .int v3), (5, .int v5)]) h dX10_outsIn_62 (by decide) rfl ?_
          refine r_iinc (v := v5 + 1) (lv' := [(5, .int (v5 + 1)), (4, .int (s0 + 1)), (0, .ref v0), (1, .int v1), (2, .int v2), (3, .int v3)]) h 5 dX10_outsIn_64 rfl rfl (by decide) rfl ?_
          refine r_goto (tgt := 6) h dX10_outsIn_67 (by decide) ?_
          exact V.sub [2, 3, 4, 5, 1, 0] rfl hf)
  refine r_iconst (v := 0) h dX10_outsIn_0 (by decide) ?_
  refine r_istore (lv' := [(4, .int 0), (0, .ref a0), (1, .int a1), (2, .int a2), (3, .int a3)]) h dX10_outsIn_1 (by decide) rfl ?_
  refine r_iconst (v := 0) h dX10_outsIn_3 (by decide) ?_
  refine r_istore (lv' := [(5, .int 0), (4, .int 0), (0, .ref a0), (1, .int a1), (2, .int a2), (3, .int a3)]) h dX10_outsIn_4 (by decide) rfl ?_
  exact V.sub [2, 3, 4, 5, 1, 0] rfl hf
theorem c2133 {l : Launch} {G : gG} {X : gX} {cc : ByteArray} {nL F L bc bs pc : Nat} {M : gM} {lv : List (Nat × Value)} {rest : List Value} {a0 : Nat} {a1 : Int32} {a2 : Int32} {a3 : Int32} {K : Int32 → gM → Prop} (hl : l.stackTraces = false) (h : hX l G X cc nL "GlacierMailModel" F L) (d : decode cc pc = .ok (.invokevirtual 431, 3)) (hk : kd M a0 = some (.inl 10)) (hf : f_X10_outsIn a0 a1 a2 a3 M K) (hst : (rest.map fun v => v.category).sum ≤ 8) (hF : 3 ≤ F) (hL : 68 ≤ L) (kk : ∀ x M1, K x M1 → V l G X bc bs M1 (pc + 3) lv (.int x :: rest)) : V l G X bc bs M pc lv (.int a3 :: .int a2 :: .int a1 :: .ref a0 :: rest) := r_callV (n := 3) (As := [.int a1, .int a2, .int a3]) h (m_X10_outsIn hl hf) 10 rfl hk rfl ⟨by decide, by decide, by decide +kernel⟩ d q2133 q2135 qs121 q147 q2136 rfl rfl hst hF hL (Nat.zero_le _) (Nat.zero_le _) (kI_go kk) kN_go
def f_X10_market (a0 : Nat) (a1 : Int32) (M : gM) (K : Int32 → gM → Prop) : Prop :=
  ∀ P16 : Nat → Int32 → Int32 → Int32 → Int32 → gM → Prop,
  (∀ (v0 : Nat) (v1 : Int32) (v2 : Int32) (v3 : Int32) (v4 : Int32) (M : gM), (if 300 ≤ v4 then if v1 = 0 then K v2 M else K v3 M else kd M v0 = some (.inl 10) ∧ f_X10_outsIn v0 v4 (-1) 0 M (fun x9 M8 => if v3 < x9 then P16 v0 v1 v4 x9 (v4 + 1) M8 else P16 v0 v1 v2 v3 (v4 + 1) M8)) → P16 v0 v1 v2 v3 v4 M) →
  kd M a0 = some (.inl 10) ∧ ∀ M2, M2 = sI M a0 0 0 → kd M2 a0 = some (.inl 10) ∧ f_X10_outsAll a0 M2 (fun M4 => P16 a0 a1 (-1) 0 0 M4)
set_option maxHeartbeats 4000000 in
theorem m_X10_market {l : Launch} (hl : l.stackTraces = false) {G : gG} {a0 : Nat} {a1 : Int32} {M : gM} {K : Int32 → gM → Prop} (hf : f_X10_market a0 a1 M K) : gMet l G yX10_market (ws_ yX10_market cX10_market 6 (some Jvm.ClassFile.FieldType.int)) ({ frames := 9, cells := 0, slots := 0, locals := 210 }) M [.ref a0, .int a1] (kI K) kN := by
  refine gm_of hl (ret := (some Jvm.ClassFile.FieldType.int)) rfl (Nat.le_of_ble_eq_true rfl) (fun X h hq => ?_)
  have h : hX l G X cX10_market 6 "GlacierMailModel" 9 210 := h
  have hf := hf
  show V l G X 0 0 M 0 [(0, .ref a0), (1, .int a1)] []
  have hf := hf
    (fun v0 v1 v2 v3 v4 M => V l G X 0 0 M 16 [(0, .ref v0), (1, .int v1), (2, .int v2), (3, .int v3), (4, .int v4)] [])
    (by
      intro v0 v1 v2 v3 v4 M hf
      show V l G X 0 0 M 16 [(0, .ref v0), (1, .int v1), (2, .int v2), (3, .int v3), (4, .int v4)] []
      refine r_iload h 4 dX10_market_16 rfl ?_
      refine r_sipush (v := 300) h dX10_market_18 (by decide) ?_
      refine r_icmp_ge (tgt := 55) h dX10_market_21 (by decide) (fun c5 => ?_) (fun c5 => ?_)
      · have hf := ite_t c5 hf
        refine r_iload_n h 1 dX10_market_55 rfl rfl ?_
        refine r_if_eq (tgt := 63) h dX10_market_56 (by decide) (fun c6 => ?_) (fun c6 => ?_)
        · have hf := ite_t c6 hf
          refine r_iload_n h 2 dX10_market_63 rfl rfl ?_
          exact r_ireturn h hq dX10_market_64 ⟨_, rfl, hf⟩
        · have hf := ite_f c6 hf
          refine r_iload_n h 3 dX10_market_59 rfl rfl ?_
          refine r_goto (tgt := 64) h dX10_market_60 (by decide) ?_
          exact r_ireturn h hq dX10_market_64 ⟨_, rfl, hf⟩
      · have hf := ite_f c5 hf
        refine r_aload_n h 0 dX10_market_24 rfl rfl ?_
        refine r_iload h 4 dX10_market_25 rfl ?_
        refine r_iconst (v := (-1)) h dX10_market_27 (by decide) ?_
        refine r_iconst (v := 0) h dX10_market_28 (by decide) ?_
        obtain ⟨k7, hf⟩ := hf
        refine c2133 hl h dX10_market_29 k7 hf (Nat.le_of_ble_eq_true rfl) (by decide) (by decide) (fun x9 M8 hf => ?_)
        refine r_istore (lv' := [(5, .int x9), (0, .ref v0), (1, .int v1), (2, .int v2), (3, .int v3), (4, .int v4)]) h dX10_market_32 (by decide) rfl ?_
        refine r_iload h 0 dX10_market_34 rfl ?_
        refine r_iload_n h 4 dX10_market_36 rfl rfl ?_
        refine r_icmp_gt (tgt := 43) h dX10_market_37 (by decide) (fun c10 => ?_) (fun c10 => ?_)
        · have hf := ite_t c10 hf
          refine r_iload h 5 dX10_market_43 rfl ?_
          refine r_istore_n (lv' := [(2, .int v4), (5, .int x9), (0, .ref v0), (1, .int v1), (3, .int v3), (4, .int v4)]) h dX10_market_45 rfl (by decide) rfl ?_
          refine r_iload h 1 dX10_market_46 rfl ?_
          refine r_istore_n (lv' := [(3, .int x9), (2, .int v4), (5, .int x9), (0, .ref v0), (1, .int v1), (4, .int v4)]) h dX10_market_48 rfl (by decide) rfl ?_
          refine r_iinc (v := v4 + 1) (lv' := [(4, .int (v4 + 1)), (3, .int x9), (2, .int v4), (5, .int x9), (0, .ref v0), (1, .int v1)]) h 5 dX10_market_49 rfl rfl (by decide) rfl ?_
          refine r_goto (tgt := 16) h dX10_market_52 (by decide) ?_
          exact V.sub [4, 5, 2, 1, 0] rfl hf
        · have hf := ite_f c10 hf
          refine r_goto (tgt := 49) h dX10_market_40 (by decide) ?_
          refine r_iinc (v := v4 + 1) (lv' := [(4, .int (v4 + 1)), (5, .int x9), (0, .ref v0), (1, .int v1), (2, .int v2), (3, .int v3)]) h 5 dX10_market_49 rfl rfl (by decide) rfl ?_
          refine r_goto (tgt := 16) h dX10_market_52 (by decide) ?_
          exact V.sub [2, 3, 4, 5, 0] rfl hf)
  refine r_aload_n h 0 dX10_market_0 rfl rfl ?_
  refine r_iconst (v := 0) h dX10_market_1 (by decide) ?_
  obtain ⟨k1, hf⟩ := hf
  refine p1597 h dX10_market_2 k1 ?_
  refine r_goW (fun M2 eM2 => ?_)
  have hf := hf M2 eM2
  refine r_aload_n h 0 dX10_market_5 rfl rfl ?_
  obtain ⟨k3, hf⟩ := hf
  refine c2129 hl h dX10_market_6 k3 hf (Nat.le_of_ble_eq_true rfl) (by decide) (by decide) (fun M4 hf => ?_)
  refine r_iconst (v := (-1)) h dX10_market_9 (by decide) ?_
  refine r_istore_n (lv' := [(2, .int (-1)), (0, .ref a0), (1, .int a1)]) h dX10_market_10 rfl (by decide) rfl ?_
  refine r_iconst (v := 0) h dX10_market_11 (by decide) ?_
  refine r_istore_n (lv' := [(3, .int 0), (2, .int (-1)), (0, .ref a0), (1, .int a1)]) h dX10_market_12 rfl (by decide) rfl ?_
  refine r_iconst (v := 0) h dX10_market_13 (by decide) ?_
  refine r_istore (lv' := [(4, .int 0), (3, .int 0), (2, .int (-1)), (0, .ref a0), (1, .int a1)]) h dX10_market_14 (by decide) rfl ?_
  exact V.sub [3, 4, 2, 1, 0] rfl hf
theorem c2125 {l : Launch} {G : gG} {X : gX} {cc : ByteArray} {nL F L bc bs pc : Nat} {M : gM} {lv : List (Nat × Value)} {rest : List Value} {a0 : Nat} {a1 : Int32} {K : Int32 → gM → Prop} (hl : l.stackTraces = false) (h : hX l G X cc nL "GlacierMailLaw" F L) (d : decode cc pc = .ok (.invokevirtual 225, 3)) (hk : kd M a0 = some (.inl 10)) (hf : f_X10_market a0 a1 M K) (hst : (rest.map fun v => v.category).sum ≤ 8) (hF : 10 ≤ F) (hL : 235 ≤ L) (kk : ∀ x M1, K x M1 → V l G X bc bs M1 (pc + 3) lv (.int x :: rest)) : V l G X bc bs M pc lv (.int a1 :: .ref a0 :: rest) := r_callV (n := 1) (As := [.int a1]) h (m_X10_market hl hf) 10 rfl hk rfl ⟨by decide, by decide, by decide +kernel⟩ d q2125 q2126 q2127 q147 q2128 rfl rfl hst hF hL (Nat.zero_le _) (Nat.zero_le _) (kI_go kk) kN_go
def f_X10_keepsRows (a0 : Nat) (M : gM) (K : gM → Prop) : Prop :=
  ∀ P2 : Nat → Int32 → gM → Prop,
  (∀ (v0 : Nat) (v1 : Int32) (M : gM), (if 300 ≤ v1 then K M else kd M v0 = some (.inl 10) ∧ ∃ b3, rv M v0 32 = some b3 ∧ ∃ b5, rv M v0 27 = some b5 ∧ inA M b5 0 v1 ∧ inA M b3 0 v1 ∧ ∀ M9, M9 = sI M b3 (ix v1) (iv M b5 (ix v1)) → P2 v0 (v1 + 1) M9) → P2 v0 v1 M) →
  P2 a0 0 M
set_option maxHeartbeats 4000000 in
theorem m_X10_keepsRows {l : Launch} (hl : l.stackTraces = false) {G : gG} {a0 : Nat} {M : gM} {K : gM → Prop} (hf : f_X10_keepsRows a0 M K) : gMet l G yX10_keepsRows (ws_ yX10_keepsRows cX10_keepsRows 2 none) ({ frames := 0, cells := 0, slots := 0, locals := 0 }) M [.ref a0] (kV K) kN := by
  refine gm_of hl (ret := none) rfl (Nat.le_of_ble_eq_true rfl) (fun X h hq => ?_)
  have h : hX l G X cX10_keepsRows 2 "GlacierMailModel" 0 0 := h
  have hf := hf
  show V l G X 0 0 M 0 [(0, .ref a0)] []
  have hf := hf
    (fun v0 v1 M => V l G X 0 0 M 2 [(0, .ref v0), (1, .int v1)] [])
    (by
      intro v0 v1 M hf
      show V l G X 0 0 M 2 [(0, .ref v0), (1, .int v1)] []
      refine r_iload_n h 1 dX10_keepsRows_2 rfl rfl ?_
      refine r_sipush (v := 300) h dX10_keepsRows_3 (by decide) ?_
      refine r_icmp_ge (tgt := 27) h dX10_keepsRows_6 (by decide) (fun c1 => ?_) (fun c1 => ?_)
      · have hf := ite_t c1 hf
        exact r_return h hq dX10_keepsRows_27 ⟨rfl, hf⟩
      · have hf := ite_f c1 hf
        refine r_aload_n h 0 dX10_keepsRows_9 rfl rfl ?_
        obtain ⟨k2, hf⟩ := hf
        obtain ⟨b3, e4, hf⟩ := hf
        refine g1629 h dX10_keepsRows_10 k2 e4 ?_
        refine r_iload_n h 1 dX10_keepsRows_13 rfl rfl ?_
        refine r_aload_n h 0 dX10_keepsRows_14 rfl rfl ?_
        obtain ⟨b5, e6, hf⟩ := hf
        refine g1624 h dX10_keepsRows_15 k2 e6 ?_
        refine r_iload_n h 1 dX10_keepsRows_18 rfl rfl ?_
        obtain ⟨j7, hf⟩ := hf
        refine r_iaload h dX10_keepsRows_19 j7 ?_
        obtain ⟨j8, hf⟩ := hf
        refine r_iastore h dX10_keepsRows_20 j8 ?_
        refine r_goW (fun M9 eM9 => ?_)
        have hf := hf M9 eM9
        refine r_iinc (v := v1 + 1) (lv' := [(1, .int (v1 + 1)), (0, .ref v0)]) h 1 dX10_keepsRows_21 rfl rfl (by decide) rfl ?_
        refine r_goto (tgt := 2) h dX10_keepsRows_24 (by decide) ?_
        exact V.sub [1, 0] rfl hf)
  refine r_iconst (v := 0) h dX10_keepsRows_0 (by decide) ?_
  refine r_istore_n (lv' := [(1, .int 0), (0, .ref a0)]) h dX10_keepsRows_1 rfl (by decide) rfl ?_
  exact V.sub [1, 0] rfl hf
theorem c2141 {l : Launch} {G : gG} {X : gX} {cc : ByteArray} {nL F L bc bs pc : Nat} {M : gM} {lv : List (Nat × Value)} {rest : List Value} {a0 : Nat} {K : gM → Prop} (hl : l.stackTraces = false) (h : hX l G X cc nL "GlacierMailModel" F L) (d : decode cc pc = .ok (.invokevirtual 438, 3)) (hk : kd M a0 = some (.inl 10)) (hf : f_X10_keepsRows a0 M K) (hst : (rest.map fun v => v.category).sum ≤ 8) (hF : 1 ≤ F) (hL : 21 ≤ L) (kk : ∀ M1, K M1 → V l G X bc bs M1 (pc + 3) lv rest) : V l G X bc bs M pc lv (.ref a0 :: rest) := r_callV (n := 0) (As := []) h (m_X10_keepsRows hl hf) 10 rfl hk rfl ⟨by decide, by decide, by decide +kernel⟩ d q2141 q2143 qs122 q147 q2144 rfl rfl hst hF hL (Nat.zero_le _) (Nat.zero_le _) (kV_go kk) kN_go
def f_X10_isOtherInIce (a0 : Nat) (a1 : Int32) (M : gM) (K : Int32 → gM → Prop) : Prop :=
  kd M a0 = some (.inl 10) ∧ ∃ b2, rv M a0 32 = some b2 ∧ inA M b2 0 a1 ∧ if (iv M b2 (ix a1)) < 0 then K 0 M else ∃ b6, rv M a0 32 = some b6 ∧ inA M b6 0 a1 ∧ f_X10_lip a0 M (fun x10 M9 => if x10 ≤ (iv M b6 (ix a1)) then K 0 M9 else K 1 M9)
set_option maxHeartbeats 4000000 in
theorem m_X10_isOtherInIce {l : Launch} (hl : l.stackTraces = false) {G : gG} {a0 : Nat} {a1 : Int32} {M : gM} {K : Int32 → gM → Prop} (hf : f_X10_isOtherInIce a0 a1 M K) : gMet l G yX10_isOtherInIce (ws_ yX10_isOtherInIce cX10_isOtherInIce 2 (some Jvm.ClassFile.FieldType.boolean)) ({ frames := 1, cells := 0, slots := 0, locals := 20 }) M [.ref a0, .int a1] (kI K) kN := by
  refine gm_of hl (ret := (some Jvm.ClassFile.FieldType.boolean)) rfl (Nat.le_of_ble_eq_true rfl) (fun X h hq => ?_)
  have h : hX l G X cX10_isOtherInIce 2 "GlacierMailModel" 1 20 := h
  have hf := hf
  show V l G X 0 0 M 0 [(0, .ref a0), (1, .int a1)] []
  unfold f_X10_isOtherInIce at hf
  refine r_aload_n h 0 dX10_isOtherInIce_0 rfl rfl ?_
  obtain ⟨k1, hf⟩ := hf
  obtain ⟨b2, e3, hf⟩ := hf
  refine g1629 h dX10_isOtherInIce_1 k1 e3 ?_
  refine r_iload_n h 1 dX10_isOtherInIce_4 rfl rfl ?_
  obtain ⟨j4, hf⟩ := hf
  refine r_iaload h dX10_isOtherInIce_5 j4 ?_
  refine r_if_lt (tgt := 26) h dX10_isOtherInIce_6 (by decide) (fun c5 => ?_) (fun c5 => ?_)
  · have hf := ite_t c5 hf
    refine r_iconst (v := 0) h dX10_isOtherInIce_26 (by decide) ?_
    exact r_zreturn h hq dX10_isOtherInIce_27 (by decide) ⟨_, rfl, hf⟩
  · have hf := ite_f c5 hf
    refine r_aload_n h 0 dX10_isOtherInIce_9 rfl rfl ?_
    obtain ⟨b6, e7, hf⟩ := hf
    refine g1629 h dX10_isOtherInIce_10 k1 e7 ?_
    refine r_iload_n h 1 dX10_isOtherInIce_13 rfl rfl ?_
    obtain ⟨j8, hf⟩ := hf
    refine r_iaload h dX10_isOtherInIce_14 j8 ?_
    refine r_aload_n h 0 dX10_isOtherInIce_15 rfl rfl ?_
    refine c1812 hl h dX10_isOtherInIce_16 k1 hf (Nat.le_of_ble_eq_true rfl) (by decide) (by decide) (fun x10 M9 hf => ?_)
    refine r_icmp_ge (tgt := 26) h dX10_isOtherInIce_19 (by decide) (fun c11 => ?_) (fun c11 => ?_)
    · have hf := ite_t c11 hf
      refine r_iconst (v := 0) h dX10_isOtherInIce_26 (by decide) ?_
      exact r_zreturn h hq dX10_isOtherInIce_27 (by decide) ⟨_, rfl, hf⟩
    · have hf := ite_f c11 hf
      refine r_iconst (v := 1) h dX10_isOtherInIce_22 (by decide) ?_
      refine r_goto (tgt := 27) h dX10_isOtherInIce_23 (by decide) ?_
      exact r_zreturn h hq dX10_isOtherInIce_27 (by decide) ⟨_, rfl, hf⟩
theorem c2149 {l : Launch} {G : gG} {X : gX} {cc : ByteArray} {nL F L bc bs pc : Nat} {M : gM} {lv : List (Nat × Value)} {rest : List Value} {a0 : Nat} {a1 : Int32} {K : Int32 → gM → Prop} (hl : l.stackTraces = false) (h : hX l G X cc nL "GlacierMailModel" F L) (d : decode cc pc = .ok (.invokevirtual 435, 3)) (hk : kd M a0 = some (.inl 10)) (hf : f_X10_isOtherInIce a0 a1 M K) (hst : (rest.map fun v => v.category).sum ≤ 8) (hF : 2 ≤ F) (hL : 41 ≤ L) (kk : ∀ x M1, K x M1 → V l G X bc bs M1 (pc + 3) lv (.int x :: rest)) : V l G X bc bs M pc lv (.int a1 :: .ref a0 :: rest) := r_callV (n := 1) (As := [.int a1]) h (m_X10_isOtherInIce hl hf) 10 rfl hk rfl ⟨by decide, by decide, by decide +kernel⟩ d q2149 q2151 qs124 q147 q2152 rfl rfl hst hF hL (Nat.zero_le _) (Nat.zero_le _) (kI_go kk) kN_go
def f_X10_isPassing (a0 : Nat) (a1 : Int32) (M : gM) (K : Int32 → gM → Prop) : Prop :=
  ∀ P37 : Nat → Int32 → gM → Prop,
  (∀ (v0 : Nat) (v2 : Int32) (M : gM), (if 300 ≤ v2 then K 0 M else kd M v0 = some (.inl 10) ∧ f_X10_isInIce v0 v2 M (fun x20 M19 => if x20 = 0 then P37 v0 (v2 + 1) M19 else kd M19 v0 = some (.inl 10) ∧ f_X10_isOtherInIce v0 v2 M19 (fun x24 M23 => if x24 = 0 then P37 v0 (v2 + 1) M23 else kd M23 v0 = some (.inl 10) ∧ ∃ b27, rv M23 v0 32 = some b27 ∧ inA M23 b27 0 v2 ∧ ∃ b30, rv M23 v0 27 = some b30 ∧ inA M23 b30 0 v2 ∧ if (iv M23 b27 (ix v2)) ≤ (iv M23 b30 (ix v2)) then P37 v0 (v2 + 1) M23 else K 1 M23))) → P37 v0 v2 M) →
  kd M a0 = some (.inl 10) ∧ f_X10_isInIce a0 a1 M (fun x3 M2 => if x3 = 0 then K 0 M2 else kd M2 a0 = some (.inl 10) ∧ f_X10_isOtherInIce a0 a1 M2 (fun x7 M6 => if x7 = 0 then K 0 M6 else kd M6 a0 = some (.inl 10) ∧ ∃ b10, rv M6 a0 32 = some b10 ∧ inA M6 b10 0 a1 ∧ ∃ b13, rv M6 a0 27 = some b13 ∧ inA M6 b13 0 a1 ∧ if (iv M6 b10 (ix a1)) < (iv M6 b13 (ix a1)) then P37 a0 (a1 + 1) M6 else K 0 M6))
set_option maxHeartbeats 4000000 in
theorem m_X10_isPassing {l : Launch} (hl : l.stackTraces = false) {G : gG} {a0 : Nat} {a1 : Int32} {M : gM} {K : Int32 → gM → Prop} (hf : f_X10_isPassing a0 a1 M K) : gMet l G yX10_isPassing (ws_ yX10_isPassing cX10_isPassing 3 (some Jvm.ClassFile.FieldType.boolean)) ({ frames := 2, cells := 0, slots := 0, locals := 41 }) M [.ref a0, .int a1] (kI K) kN := by
  refine gm_of hl (ret := (some Jvm.ClassFile.FieldType.boolean)) rfl (Nat.le_of_ble_eq_true rfl) (fun X h hq => ?_)
  have h : hX l G X cX10_isPassing 3 "GlacierMailModel" 2 41 := h
  have hf := hf
  show V l G X 0 0 M 0 [(0, .ref a0), (1, .int a1)] []
  have hf := hf
    (fun v0 v2 M => V l G X 0 0 M 37 [(0, .ref v0), (2, .int v2)] [])
    (by
      intro v0 v2 M hf
      show V l G X 0 0 M 37 [(0, .ref v0), (2, .int v2)] []
      refine r_iload_n h 1 dX10_isPassing_37 rfl rfl ?_
      refine r_sipush (v := 300) h dX10_isPassing_38 (by decide) ?_
      refine r_icmp_ge (tgt := 83) h dX10_isPassing_41 (by decide) (fun c17 => ?_) (fun c17 => ?_)
      · have hf := ite_t c17 hf
        refine r_iconst (v := 0) h dX10_isPassing_83 (by decide) ?_
        exact r_zreturn h hq dX10_isPassing_84 (by decide) ⟨_, rfl, hf⟩
      · have hf := ite_f c17 hf
        refine r_aload_n h 0 dX10_isPassing_44 rfl rfl ?_
        refine r_iload_n h 1 dX10_isPassing_45 rfl rfl ?_
        obtain ⟨k18, hf⟩ := hf
        refine c2049 hl h dX10_isPassing_46 k18 hf (Nat.le_of_ble_eq_true rfl) (by decide) (by decide) (fun x20 M19 hf => ?_)
        refine r_if_eq (tgt := 77) h dX10_isPassing_49 (by decide) (fun c21 => ?_) (fun c21 => ?_)
        · have hf := ite_t c21 hf
          refine r_iinc (v := v2 + 1) (lv' := [(2, .int (v2 + 1)), (0, .ref v0)]) h 1 dX10_isPassing_77 rfl rfl (by decide) rfl ?_
          refine r_goto (tgt := 37) h dX10_isPassing_80 (by decide) ?_
          exact V.sub [1, 0] rfl hf
        · have hf := ite_f c21 hf
          refine r_aload_n h 0 dX10_isPassing_52 rfl rfl ?_
          refine r_iload_n h 1 dX10_isPassing_53 rfl rfl ?_
          obtain ⟨k22, hf⟩ := hf
          refine c2149 hl h dX10_isPassing_54 k22 hf (Nat.le_of_ble_eq_true rfl) (by decide) (by decide) (fun x24 M23 hf => ?_)
          refine r_if_eq (tgt := 77) h dX10_isPassing_57 (by decide) (fun c25 => ?_) (fun c25 => ?_)
          · have hf := ite_t c25 hf
            refine r_iinc (v := v2 + 1) (lv' := [(2, .int (v2 + 1)), (0, .ref v0)]) h 1 dX10_isPassing_77 rfl rfl (by decide) rfl ?_
            refine r_goto (tgt := 37) h dX10_isPassing_80 (by decide) ?_
            exact V.sub [1, 0] rfl hf
          · have hf := ite_f c25 hf
            refine r_aload_n h 0 dX10_isPassing_60 rfl rfl ?_
            obtain ⟨k26, hf⟩ := hf
            obtain ⟨b27, e28, hf⟩ := hf
            refine g1629 h dX10_isPassing_61 k26 e28 ?_
            refine r_iload_n h 1 dX10_isPassing_64 rfl rfl ?_
            obtain ⟨j29, hf⟩ := hf
            refine r_iaload h dX10_isPassing_65 j29 ?_
            refine r_aload_n h 0 dX10_isPassing_66 rfl rfl ?_
            obtain ⟨b30, e31, hf⟩ := hf
            refine g1624 h dX10_isPassing_67 k26 e31 ?_
            refine r_iload_n h 1 dX10_isPassing_70 rfl rfl ?_
            obtain ⟨j32, hf⟩ := hf
            refine r_iaload h dX10_isPassing_71 j32 ?_
            refine r_icmp_le (tgt := 77) h dX10_isPassing_72 (by decide) (fun c33 => ?_) (fun c33 => ?_)
            · have hf := ite_t c33 hf
              refine r_iinc (v := v2 + 1) (lv' := [(2, .int (v2 + 1)), (0, .ref v0)]) h 1 dX10_isPassing_77 rfl rfl (by decide) rfl ?_
              refine r_goto (tgt := 37) h dX10_isPassing_80 (by decide) ?_
              exact V.sub [1, 0] rfl hf
            · have hf := ite_f c33 hf
              refine r_iconst (v := 1) h dX10_isPassing_75 (by decide) ?_
              exact r_zreturn h hq dX10_isPassing_76 (by decide) ⟨_, rfl, hf⟩)
  refine r_aload_n h 0 dX10_isPassing_0 rfl rfl ?_
  refine r_iload_n h 1 dX10_isPassing_1 rfl rfl ?_
  obtain ⟨k1, hf⟩ := hf
  refine c2049 hl h dX10_isPassing_2 k1 hf (Nat.le_of_ble_eq_true rfl) (by decide) (by decide) (fun x3 M2 hf => ?_)
  refine r_if_eq (tgt := 31) h dX10_isPassing_5 (by decide) (fun c4 => ?_) (fun c4 => ?_)
  · have hf := ite_t c4 hf
    refine r_iconst (v := 0) h dX10_isPassing_31 (by decide) ?_
    exact r_zreturn h hq dX10_isPassing_32 (by decide) ⟨_, rfl, hf⟩
  · have hf := ite_f c4 hf
    refine r_aload_n h 0 dX10_isPassing_8 rfl rfl ?_
    refine r_iload_n h 1 dX10_isPassing_9 rfl rfl ?_
    obtain ⟨k5, hf⟩ := hf
    refine c2149 hl h dX10_isPassing_10 k5 hf (Nat.le_of_ble_eq_true rfl) (by decide) (by decide) (fun x7 M6 hf => ?_)
    refine r_if_eq (tgt := 31) h dX10_isPassing_13 (by decide) (fun c8 => ?_) (fun c8 => ?_)
    · have hf := ite_t c8 hf
      refine r_iconst (v := 0) h dX10_isPassing_31 (by decide) ?_
      exact r_zreturn h hq dX10_isPassing_32 (by decide) ⟨_, rfl, hf⟩
    · have hf := ite_f c8 hf
      refine r_aload_n h 0 dX10_isPassing_16 rfl rfl ?_
      obtain ⟨k9, hf⟩ := hf
      obtain ⟨b10, e11, hf⟩ := hf
      refine g1629 h dX10_isPassing_17 k9 e11 ?_
      refine r_iload_n h 1 dX10_isPassing_20 rfl rfl ?_
      obtain ⟨j12, hf⟩ := hf
      refine r_iaload h dX10_isPassing_21 j12 ?_
      refine r_aload_n h 0 dX10_isPassing_22 rfl rfl ?_
      obtain ⟨b13, e14, hf⟩ := hf
      refine g1624 h dX10_isPassing_23 k9 e14 ?_
      refine r_iload_n h 1 dX10_isPassing_26 rfl rfl ?_
      obtain ⟨j15, hf⟩ := hf
      refine r_iaload h dX10_isPassing_27 j15 ?_
      refine r_icmp_lt (tgt := 33) h dX10_isPassing_28 (by decide) (fun c16 => ?_) (fun c16 => ?_)
      · have hf := ite_t c16 hf
        refine r_iload_n h 1 dX10_isPassing_33 rfl rfl ?_
        refine r_iconst (v := 1) h dX10_isPassing_34 (by decide) ?_
        refine r_iadd h dX10_isPassing_35 ?_
        refine r_istore_n (lv' := [(2, .int (a1 + 1)), (0, .ref a0), (1, .int a1)]) h dX10_isPassing_36 rfl (by decide) rfl ?_
        exact V.sub [1, 0] rfl hf
      · have hf := ite_f c16 hf
        refine r_iconst (v := 0) h dX10_isPassing_31 (by decide) ?_
        exact r_zreturn h hq dX10_isPassing_32 (by decide) ⟨_, rfl, hf⟩
theorem c2145 {l : Launch} {G : gG} {X : gX} {cc : ByteArray} {nL F L bc bs pc : Nat} {M : gM} {lv : List (Nat × Value)} {rest : List Value} {a0 : Nat} {a1 : Int32} {K : Int32 → gM → Prop} (hl : l.stackTraces = false) (h : hX l G X cc nL "GlacierMailModel" F L) (d : decode cc pc = .ok (.invokevirtual 441, 3)) (hk : kd M a0 = some (.inl 10)) (hf : f_X10_isPassing a0 a1 M K) (hst : (rest.map fun v => v.category).sum ≤ 8) (hF : 3 ≤ F) (hL : 63 ≤ L) (kk : ∀ x M1, K x M1 → V l G X bc bs M1 (pc + 3) lv (.int x :: rest)) : V l G X bc bs M pc lv (.int a1 :: .ref a0 :: rest) := r_callV (n := 1) (As := [.int a1]) h (m_X10_isPassing hl hf) 10 rfl hk rfl ⟨by decide, by decide, by decide +kernel⟩ d q2145 q2147 qs123 q147 q2148 rfl rfl hst hF hL (Nat.zero_le _) (Nat.zero_le _) (kI_go kk) kN_go
def f_X10_passes (a0 : Nat) (a1 : Int32) (M : gM) (K : Int32 → gM → Prop) : Prop :=
  ∀ P34 : Nat → Int32 → Int32 → Int32 → gM → Prop,
  (∀ (v0 : Nat) (v1 : Int32) (v2 : Int32) (v3 : Int32) (M : gM), (kd M v0 = some (.inl 10) ∧ f_X10_letters v0 M (fun x16 M15 => if x16 ≤ v3 then K v2 M15 else if v3 = v1 then P34 v0 v1 v2 (v3 + 1) M15 else kd M15 v0 = some (.inl 10) ∧ f_X10_ofLetter v0 v3 2 M15 (fun x21 M20 => kd M20 v0 = some (.inl 10) ∧ f_X10_ofLetter v0 v1 2 M20 (fun x24 M23 => if x21 = x24 then kd M23 v0 = some (.inl 10) ∧ f_X10_runsLetter v0 v3 (-1) M23 (fun M27 => kd M27 v0 = some (.inl 10) ∧ f_X10_ofLetter v0 v3 3 M27 (fun x30 M29 => kd M29 v0 = some (.inl 10) ∧ f_X10_ofLetter v0 v1 3 M29 (fun x33 M32 => ∀ x34, x34 = (if x30 < x33 then x33 else x30) → kd M32 v0 = some (.inl 10) ∧ f_X10_isPassing v0 x34 M32 (fun x37 M36 => if x37 = 0 then P34 v0 v1 (v2 + 0) (v3 + 1) M36 else P34 v0 v1 (v2 + 1) (v3 + 1) M36)))) else P34 v0 v1 v2 (v3 + 1) M23)))) → P34 v0 v1 v2 v3 M) →
  kd M a0 = some (.inl 10) ∧ ∀ M2, M2 = sI M a0 0 0 → kd M2 a0 = some (.inl 10) ∧ f_X10_noLetter a0 a1 M2 (fun x5 M4 => kd M4 a0 = some (.inl 10) ∧ f_X10_throwsIf a0 x5 1 M4 (fun x8 M7 => if x8 = 0 then kd M7 a0 = some (.inl 10) ∧ f_X10_runsLetter a0 a1 (-1) M7 (fun M11 => kd M11 a0 = some (.inl 10) ∧ f_X10_keepsRows a0 M11 (fun M13 => P34 a0 a1 0 0 M13)) else K 0 M7))
set_option maxHeartbeats 4000000 in
theorem m_X10_passes {l : Launch} (hl : l.stackTraces = false) {G : gG} {a0 : Nat} {a1 : Int32} {M : gM} {K : Int32 → gM → Prop} (hf : f_X10_passes a0 a1 M K) : gMet l G yX10_passes (ws_ yX10_passes cX10_passes 4 (some Jvm.ClassFile.FieldType.int)) ({ frames := 7, cells := 0, slots := 0, locals := 168 }) M [.ref a0, .int a1] (kI K) kN := by
  refine gm_of hl (ret := (some Jvm.ClassFile.FieldType.int)) rfl (Nat.le_of_ble_eq_true rfl) (fun X h hq => ?_)
  have h : hX l G X cX10_passes 4 "GlacierMailModel" 7 168 := h
  have hf := hf
  show V l G X 0 0 M 0 [(0, .ref a0), (1, .int a1)] []
  have hf := hf
    (fun v0 v1 v2 v3 M => V l G X 0 0 M 34 [(0, .ref v0), (1, .int v1), (2, .int v2), (3, .int v3)] [])
    (by
      intro v0 v1 v2 v3 M hf
      show V l G X 0 0 M 34 [(0, .ref v0), (1, .int v1), (2, .int v2), (3, .int v3)] []
      refine r_iload_n h 3 dX10_passes_34 rfl rfl ?_
      refine r_aload_n h 0 dX10_passes_35 rfl rfl ?_
      obtain ⟨k14, hf⟩ := hf
      refine c1790 hl h dX10_passes_36 k14 hf (Nat.le_of_ble_eq_true rfl) (by decide) (by decide) (fun x16 M15 hf => ?_)
      refine r_icmp_ge (tgt := 107) h dX10_passes_39 (by decide) (fun c17 => ?_) (fun c17 => ?_)
      · have hf := ite_t c17 hf
        refine r_iload_n h 2 dX10_passes_107 rfl rfl ?_
        exact r_ireturn h hq dX10_passes_108 ⟨_, rfl, hf⟩
      · have hf := ite_f c17 hf
        refine r_iload_n h 3 dX10_passes_42 rfl rfl ?_
        refine r_iload_n h 1 dX10_passes_43 rfl rfl ?_
        refine r_icmp_eq (tgt := 101) h dX10_passes_44 (by decide) (fun c18 => ?_) (fun c18 => ?_)
        · have hf := ite_t c18 hf
          refine r_iinc (v := v3 + 1) (lv' := [(3, .int (v3 + 1)), (0, .ref v0), (1, .int v1), (2, .int v2)]) h 3 dX10_passes_101 rfl rfl (by decide) rfl ?_
          refine r_goto (tgt := 34) h dX10_passes_104 (by decide) ?_
          exact V.sub [1, 2, 3, 0] rfl hf
        · have hf := ite_f c18 hf
          refine r_aload_n h 0 dX10_passes_47 rfl rfl ?_
          refine r_iload_n h 3 dX10_passes_48 rfl rfl ?_
          refine r_iconst (v := 2) h dX10_passes_49 (by decide) ?_
          obtain ⟨k19, hf⟩ := hf
          refine c2005 hl h dX10_passes_50 k19 hf (Nat.le_of_ble_eq_true rfl) (by decide) (by decide) (fun x21 M20 hf => ?_)
          refine r_aload_n h 0 dX10_passes_53 rfl rfl ?_
          refine r_iload_n h 1 dX10_passes_54 rfl rfl ?_
          refine r_iconst (v := 2) h dX10_passes_55 (by decide) ?_
          obtain ⟨k22, hf⟩ := hf
          refine c2005 hl h dX10_passes_56 k22 hf (Nat.le_of_ble_eq_true rfl) (by decide) (by decide) (fun x24 M23 hf => ?_)
          refine r_icmp_eq (tgt := 65) h dX10_passes_59 (by decide) (fun c25 => ?_) (fun c25 => ?_)
          · have hf := ite_t c25 hf
            refine r_aload_n h 0 dX10_passes_65 rfl rfl ?_
            refine r_iload_n h 3 dX10_passes_66 rfl rfl ?_
            refine r_iconst (v := (-1)) h dX10_passes_67 (by decide) ?_
            obtain ⟨k26, hf⟩ := hf
            refine c2021 hl h dX10_passes_68 k26 hf (Nat.le_of_ble_eq_true rfl) (by decide) (by decide) (fun M27 hf => ?_)
            refine r_iload_n h 2 dX10_passes_71 rfl rfl ?_
            refine r_aload_n h 0 dX10_passes_72 rfl rfl ?_
            refine r_aload_n h 0 dX10_passes_73 rfl rfl ?_
            refine r_iload_n h 3 dX10_passes_74 rfl rfl ?_
            refine r_iconst (v := 3) h dX10_passes_75 (by decide) ?_
            obtain ⟨k28, hf⟩ := hf
            refine c2005 hl h dX10_passes_76 k28 hf (Nat.le_of_ble_eq_true rfl) (by decide) (by decide) (fun x30 M29 hf => ?_)
            refine r_aload_n h 0 dX10_passes_79 rfl rfl ?_
            refine r_iload_n h 1 dX10_passes_80 rfl rfl ?_
            refine r_iconst (v := 3) h dX10_passes_81 (by decide) ?_
            obtain ⟨k31, hf⟩ := hf
            refine c2005 hl h dX10_passes_82 k31 hf (Nat.le_of_ble_eq_true rfl) (by decide) (by decide) (fun x33 M32 hf => ?_)
            refine r_mmax h q1988 q732 q165 q733 dX10_passes_85 (by decide) (by decide) (Nat.le_of_ble_eq_true rfl) ?_
            refine r_nam (fun x34 ex34 => ?_)
            have hf := hf x34 ex34
            obtain ⟨k35, hf⟩ := hf
            refine c2145 hl h dX10_passes_88 k35 hf (Nat.le_of_ble_eq_true rfl) (by decide) (by decide) (fun x37 M36 hf => ?_)
            refine r_if_eq (tgt := 98) h dX10_passes_91 (by decide) (fun c38 => ?_) (fun c38 => ?_)
            · have hf := ite_t c38 hf
              refine r_iconst (v := 0) h dX10_passes_98 (by decide) ?_
              refine r_iadd h dX10_passes_99 ?_
              refine r_istore_n (lv' := [(2, .int (v2 + 0)), (0, .ref v0), (1, .int v1), (3, .int v3)]) h dX10_passes_100 rfl (by decide) rfl ?_
              refine r_iinc (v := v3 + 1) (lv' := [(3, .int (v3 + 1)), (2, .int (v2 + 0)), (0, .ref v0), (1, .int v1)]) h 3 dX10_passes_101 rfl rfl (by decide) rfl ?_
              refine r_goto (tgt := 34) h dX10_passes_104 (by decide) ?_
              exact V.sub [2, 3, 1, 0] rfl hf
            · have hf := ite_f c38 hf
              refine r_iconst (v := 1) h dX10_passes_94 (by decide) ?_
              refine r_goto (tgt := 99) h dX10_passes_95 (by decide) ?_
              refine r_iadd h dX10_passes_99 ?_
              refine r_istore_n (lv' := [(2, .int (v2 + 1)), (0, .ref v0), (1, .int v1), (3, .int v3)]) h dX10_passes_100 rfl (by decide) rfl ?_
              refine r_iinc (v := v3 + 1) (lv' := [(3, .int (v3 + 1)), (2, .int (v2 + 1)), (0, .ref v0), (1, .int v1)]) h 3 dX10_passes_101 rfl rfl (by decide) rfl ?_
              refine r_goto (tgt := 34) h dX10_passes_104 (by decide) ?_
              exact V.sub [2, 3, 1, 0] rfl hf
          · have hf := ite_f c25 hf
            refine r_goto (tgt := 101) h dX10_passes_62 (by decide) ?_
            refine r_iinc (v := v3 + 1) (lv' := [(3, .int (v3 + 1)), (0, .ref v0), (1, .int v1), (2, .int v2)]) h 3 dX10_passes_101 rfl rfl (by decide) rfl ?_
            refine r_goto (tgt := 34) h dX10_passes_104 (by decide) ?_
            exact V.sub [1, 2, 3, 0] rfl hf)
  refine r_aload_n h 0 dX10_passes_0 rfl rfl ?_
  refine r_iconst (v := 0) h dX10_passes_1 (by decide) ?_
  obtain ⟨k1, hf⟩ := hf
  refine p1597 h dX10_passes_2 k1 ?_
  refine r_goW (fun M2 eM2 => ?_)
  have hf := hf M2 eM2
  refine r_aload_n h 0 dX10_passes_5 rfl rfl ?_
  refine r_aload_n h 0 dX10_passes_6 rfl rfl ?_
  refine r_iload_n h 1 dX10_passes_7 rfl rfl ?_
  obtain ⟨k3, hf⟩ := hf
  refine c2037 hl h dX10_passes_8 k3 hf (Nat.le_of_ble_eq_true rfl) (by decide) (by decide) (fun x5 M4 hf => ?_)
  refine r_iconst (v := 1) h dX10_passes_11 (by decide) ?_
  obtain ⟨k6, hf⟩ := hf
  refine c1929 hl h dX10_passes_12 k6 hf (Nat.le_of_ble_eq_true rfl) (by decide) (by decide) (fun x8 M7 hf => ?_)
  refine r_if_eq (tgt := 20) h dX10_passes_15 (by decide) (fun c9 => ?_) (fun c9 => ?_)
  · have hf := ite_t c9 hf
    refine r_aload_n h 0 dX10_passes_20 rfl rfl ?_
    refine r_iload_n h 1 dX10_passes_21 rfl rfl ?_
    refine r_iconst (v := (-1)) h dX10_passes_22 (by decide) ?_
    obtain ⟨k10, hf⟩ := hf
    refine c2021 hl h dX10_passes_23 k10 hf (Nat.le_of_ble_eq_true rfl) (by decide) (by decide) (fun M11 hf => ?_)
    refine r_aload_n h 0 dX10_passes_26 rfl rfl ?_
    obtain ⟨k12, hf⟩ := hf
    refine c2141 hl h dX10_passes_27 k12 hf (Nat.le_of_ble_eq_true rfl) (by decide) (by decide) (fun M13 hf => ?_)
    refine r_iconst (v := 0) h dX10_passes_30 (by decide) ?_
    refine r_istore_n (lv' := [(2, .int 0), (0, .ref a0), (1, .int a1)]) h dX10_passes_31 rfl (by decide) rfl ?_
    refine r_iconst (v := 0) h dX10_passes_32 (by decide) ?_
    refine r_istore_n (lv' := [(3, .int 0), (2, .int 0), (0, .ref a0), (1, .int a1)]) h dX10_passes_33 rfl (by decide) rfl ?_
    exact V.sub [2, 3, 1, 0] rfl hf
  · have hf := ite_f c9 hf
    refine r_iconst (v := 0) h dX10_passes_18 (by decide) ?_
    exact r_ireturn h hq dX10_passes_19 ⟨_, rfl, hf⟩
theorem c2137 {l : Launch} {G : gG} {X : gX} {cc : ByteArray} {nL F L bc bs pc : Nat} {M : gM} {lv : List (Nat × Value)} {rest : List Value} {a0 : Nat} {a1 : Int32} {K : Int32 → gM → Prop} (hl : l.stackTraces = false) (h : hX l G X cc nL "GlacierMailLaw" F L) (d : decode cc pc = .ok (.invokevirtual 228, 3)) (hk : kd M a0 = some (.inl 10)) (hf : f_X10_passes a0 a1 M K) (hst : (rest.map fun v => v.category).sum ≤ 8) (hF : 8 ≤ F) (hL : 191 ≤ L) (kk : ∀ x M1, K x M1 → V l G X bc bs M1 (pc + 3) lv (.int x :: rest)) : V l G X bc bs M pc lv (.int a1 :: .ref a0 :: rest) := r_callV (n := 1) (As := [.int a1]) h (m_X10_passes hl hf) 10 rfl hk rfl ⟨by decide, by decide, by decide +kernel⟩ d q2137 q2138 q2139 q147 q2140 rfl rfl hst hF hL (Nat.zero_le _) (Nat.zero_le _) (kI_go kk) kN_go
def f_X10_wroteIn (a0 : Nat) (a1 : Int32) (a2 : Int32) (a3 : Int32) (a4 : Int32) (M : gM) (K : Int32 → gM → Prop) : Prop :=
  ∀ P5 : Nat → Int32 → Int32 → Int32 → Int32 → Int32 → gM → Prop,
  (∀ (v0 : Nat) (v1 : Int32) (v2 : Int32) (v3 : Int32) (v4 : Int32) (v5 : Int32) (M : gM), (if v5 < 0 then K (-1) M else kd M v0 = some (.inl 10) ∧ f_X10_of v0 v1 0 M (fun x4 M3 => if x4 = v2 then kd M3 v0 = some (.inl 10) ∧ f_X10_of v0 v1 1 M3 (fun x8 M7 => kd M7 v0 = some (.inl 10) ∧ f_X10_outFrom v0 v2 x8 v5 M7 (fun x11 M10 => if x11 = v3 then kd M10 v0 = some (.inl 10) ∧ ∃ b14, rv M10 v0 28 = some b14 ∧ inA M10 b14 0 v3 ∧ if (iv M10 b14 (ix v3)) = v4 then K v5 M10 else P5 v0 v1 v2 v3 v4 (v5 + (-1)) M10 else P5 v0 v1 v2 v3 v4 (v5 + (-1)) M10)) else K (-1) M3)) → P5 v0 v1 v2 v3 v4 v5 M) →
  P5 a0 a1 a2 a3 a4 (a3 - 1) M
set_option maxHeartbeats 4000000 in
theorem m_X10_wroteIn {l : Launch} (hl : l.stackTraces = false) {G : gG} {a0 : Nat} {a1 : Int32} {a2 : Int32} {a3 : Int32} {a4 : Int32} {M : gM} {K : Int32 → gM → Prop} (hf : f_X10_wroteIn a0 a1 a2 a3 a4 M K) : gMet l G yX10_wroteIn (ws_ yX10_wroteIn cX10_wroteIn 6 (some Jvm.ClassFile.FieldType.int)) ({ frames := 7, cells := 0, slots := 0, locals := 169 }) M [.ref a0, .int a1, .int a2, .int a3, .int a4] (kI K) kN := by
  refine gm_of hl (ret := (some Jvm.ClassFile.FieldType.int)) rfl (Nat.le_of_ble_eq_true rfl) (fun X h hq => ?_)
  have h : hX l G X cX10_wroteIn 6 "GlacierMailModel" 7 169 := h
  have hf := hf
  show V l G X 0 0 M 0 [(0, .ref a0), (1, .int a1), (2, .int a2), (3, .int a3), (4, .int a4)] []
  have hf := hf
    (fun v0 v1 v2 v3 v4 v5 M => V l G X 0 0 M 5 [(0, .ref v0), (1, .int v1), (2, .int v2), (3, .int v3), (4, .int v4), (5, .int v5)] [])
    (by
      intro v0 v1 v2 v3 v4 v5 M hf
      show V l G X 0 0 M 5 [(0, .ref v0), (1, .int v1), (2, .int v2), (3, .int v3), (4, .int v4), (5, .int v5)] []
      refine r_iload h 5 dX10_wroteIn_5 rfl ?_
      refine r_if_lt (tgt := 57) h dX10_wroteIn_7 (by decide) (fun c1 => ?_) (fun c1 => ?_)
      · have hf := ite_t c1 hf
        refine r_iconst (v := (-1)) h dX10_wroteIn_57 (by decide) ?_
        exact r_ireturn h hq dX10_wroteIn_58 ⟨_, rfl, hf⟩
      · have hf := ite_f c1 hf
        refine r_aload_n h 0 dX10_wroteIn_10 rfl rfl ?_
        refine r_iload_n h 1 dX10_wroteIn_11 rfl rfl ?_
        refine r_iconst (v := 0) h dX10_wroteIn_12 (by decide) ?_
        obtain ⟨k2, hf⟩ := hf
        refine c1997 hl h dX10_wroteIn_13 k2 hf (Nat.le_of_ble_eq_true rfl) (by decide) (by decide) (fun x4 M3 hf => ?_)
        refine r_iload_n h 2 dX10_wroteIn_16 rfl rfl ?_
        refine r_icmp_ne (tgt := 57) h dX10_wroteIn_17 (by decide) (fun c5 => ?_) (fun c5 => ?_)
        · have hf := ite_f c5 hf
          refine r_iconst (v := (-1)) h dX10_wroteIn_57 (by decide) ?_
          exact r_ireturn h hq dX10_wroteIn_58 ⟨_, rfl, hf⟩
        · have hf := ite_t c5 hf
          refine r_aload_n h 0 dX10_wroteIn_20 rfl rfl ?_
          refine r_iload_n h 2 dX10_wroteIn_21 rfl rfl ?_
          refine r_aload_n h 0 dX10_wroteIn_22 rfl rfl ?_
          refine r_iload_n h 1 dX10_wroteIn_23 rfl rfl ?_
          refine r_iconst (v := 1) h dX10_wroteIn_24 (by decide) ?_
          obtain ⟨k6, hf⟩ := hf
          refine c1997 hl h dX10_wroteIn_25 k6 hf (Nat.le_of_ble_eq_true rfl) (by decide) (by decide) (fun x8 M7 hf => ?_)
          refine r_iload h 5 dX10_wroteIn_28 rfl ?_
          obtain ⟨k9, hf⟩ := hf
          refine c2101 hl h dX10_wroteIn_30 k9 hf (Nat.le_of_ble_eq_true rfl) (by decide) (by decide) (fun x11 M10 hf => ?_)
          refine r_iload_n h 3 dX10_wroteIn_33 rfl rfl ?_
          refine r_icmp_ne (tgt := 51) h dX10_wroteIn_34 (by decide) (fun c12 => ?_) (fun c12 => ?_)
          · have hf := ite_f c12 hf
            refine r_iinc (v := v5 + (-1)) (lv' := [(5, .int (v5 + (-1))), (0, .ref v0), (1, .int v1), (2, .int v2), (3, .int v3), (4, .int v4)]) h 5 dX10_wroteIn_51 rfl rfl (by decide) rfl ?_
            refine r_goto (tgt := 5) h dX10_wroteIn_54 (by decide) ?_
            exact V.sub [1, 2, 3, 4, 5, 0] rfl hf
          · have hf := ite_t c12 hf
            refine r_aload_n h 0 dX10_wroteIn_37 rfl rfl ?_
            obtain ⟨k13, hf⟩ := hf
            obtain ⟨b14, e15, hf⟩ := hf
            refine g1625 h dX10_wroteIn_38 k13 e15 ?_
            refine r_iload_n h 3 dX10_wroteIn_41 rfl rfl ?_
            obtain ⟨j16, hf⟩ := hf
            refine r_iaload h dX10_wroteIn_42 j16 ?_
            refine r_iload h 4 dX10_wroteIn_43 rfl ?_
            refine r_icmp_ne (tgt := 51) h dX10_wroteIn_45 (by decide) (fun c17 => ?_) (fun c17 => ?_)
            · have hf := ite_f c17 hf
              refine r_iinc (v := v5 + (-1)) (lv' := [(5, .int (v5 + (-1))), (0, .ref v0), (1, .int v1), (2, .int v2), (3, .int v3), (4, .int v4)]) h 5 dX10_wroteIn_51 rfl rfl (by decide) rfl ?_
              refine r_goto (tgt := 5) h dX10_wroteIn_54 (by decide) ?_
              exact V.sub [1, 2, 3, 4, 5, 0] rfl hf
            · have hf := ite_t c17 hf
              refine r_iload h 5 dX10_wroteIn_48 rfl ?_
              exact r_ireturn h hq dX10_wroteIn_50 ⟨_, rfl, hf⟩)
  refine r_iload_n h 3 dX10_wroteIn_0 rfl rfl ?_
  refine r_iconst (v := 1) h dX10_wroteIn_1 (by decide) ?_
  refine r_isub h dX10_wroteIn_2 ?_
  refine r_istore (lv' := [(5, .int (a3 - 1)), (0, .ref a0), (1, .int a1), (2, .int a2), (3, .int a3), (4, .int a4)]) h dX10_wroteIn_3 (by decide) rfl ?_
  exact V.sub [1, 2, 3, 4, 5, 0] rfl hf
theorem c2157 {l : Launch} {G : gG} {X : gX} {cc : ByteArray} {nL F L bc bs pc : Nat} {M : gM} {lv : List (Nat × Value)} {rest : List Value} {a0 : Nat} {a1 : Int32} {a2 : Int32} {a3 : Int32} {a4 : Int32} {K : Int32 → gM → Prop} (hl : l.stackTraces = false) (h : hX l G X cc nL "GlacierMailModel" F L) (d : decode cc pc = .ok (.invokevirtual 444, 3)) (hk : kd M a0 = some (.inl 10)) (hf : f_X10_wroteIn a0 a1 a2 a3 a4 M K) (hst : (rest.map fun v => v.category).sum ≤ 8) (hF : 8 ≤ F) (hL : 194 ≤ L) (kk : ∀ x M1, K x M1 → V l G X bc bs M1 (pc + 3) lv (.int x :: rest)) : V l G X bc bs M pc lv (.int a4 :: .int a3 :: .int a2 :: .int a1 :: .ref a0 :: rest) := r_callV (n := 4) (As := [.int a1, .int a2, .int a3, .int a4]) h (m_X10_wroteIn hl hf) 10 rfl hk rfl ⟨by decide, by decide, by decide +kernel⟩ d q2157 q2159 qs125 q147 q2160 rfl rfl hst hF hL (Nat.zero_le _) (Nat.zero_le _) (kI_go kk) kN_go
def f_X10_writers (a0 : Nat) (a1 : Int32) (a2 : Int32) (a3 : Int32) (M : gM) (K : Int32 → gM → Prop) : Prop :=
  ∀ P41 : Nat → Int32 → Int32 → Int32 → Int32 → Nat → gM → Prop,
  ∀ P56 : Nat → Int32 → Int32 → Int32 → Int32 → Int32 → gM → Prop,
  (∀ (v0 : Nat) (v1 : Int32) (v2 : Int32) (v3 : Int32) (s0 : Int32) (s1 : Nat) (M : gM), (kd M s1 = some (.inl 10) ∧ f_X10_throwsIf s1 s0 2 M (fun x18 M17 => if x18 = 0 then P56 v0 v1 v2 v3 0 0 M17 else K 0 M17)) → P41 v0 v1 v2 v3 s0 s1 M) →
  (∀ (v0 : Nat) (v1 : Int32) (v2 : Int32) (v3 : Int32) (v4 : Int32) (v5 : Int32) (M : gM), (kd M v0 = some (.inl 10) ∧ f_X10_people v0 M (fun x22 M21 => if x22 ≤ v5 then K v4 M21 else kd M21 v0 = some (.inl 10) ∧ f_X10_wroteIn v0 v5 v1 v2 v3 M21 (fun x26 M25 => if x26 < 0 then P56 v0 v1 v2 v3 (v4 ||| 0) (v5 + 1) M25 else P56 v0 v1 v2 v3 (v4 ||| ((1 : Int32) <<< (v5 &&& 31))) (v5 + 1) M25))) → P56 v0 v1 v2 v3 v4 v5 M) →
  kd M a0 = some (.inl 10) ∧ ∀ M2, M2 = sI M a0 0 0 → kd M2 a0 = some (.inl 10) ∧ f_X10_noLane a0 a1 M2 (fun x5 M4 => kd M4 a0 = some (.inl 10) ∧ f_X10_throwsIf a0 x5 1 M4 (fun x8 M7 => if x8 = 0 then f_X10_noYear a2 M7 (fun x11 M10 => if x11 = 0 then f_X10_in a3 0 99 M10 (fun x14 M13 => if x14 = 0 then P41 a0 a1 a2 a3 1 a0 M13 else P41 a0 a1 a2 a3 0 a0 M13) else P41 a0 a1 a2 a3 1 a0 M10) else K 0 M7))
set_option maxHeartbeats 4000000 in
theorem m_X10_writers {l : Launch} (hl : l.stackTraces = false) {G : gG} {a0 : Nat} {a1 : Int32} {a2 : Int32} {a3 : Int32} {M : gM} {K : Int32 → gM → Prop} (hf : f_X10_writers a0 a1 a2 a3 M K) : gMet l G yX10_writers (ws_ yX10_writers cX10_writers 6 (some Jvm.ClassFile.FieldType.int)) ({ frames := 8, cells := 0, slots := 0, locals := 194 }) M [.ref a0, .int a1, .int a2, .int a3] (kI K) kN := by
  refine gm_of hl (ret := (some Jvm.ClassFile.FieldType.int)) rfl (Nat.le_of_ble_eq_true rfl) (fun X h hq => ?_)
  have h : hX l G X cX10_writers 6 "GlacierMailModel" 8 194 := h
  have hf := hf
  show V l G X 0 0 M 0 [(0, .ref a0), (1, .int a1), (2, .int a2), (3, .int a3)] []
  have hf := hf
    (fun v0 v1 v2 v3 s0 s1 M => V l G X 0 0 M 41 [(0, .ref v0), (1, .int v1), (2, .int v2), (3, .int v3)] [.int s0, .ref s1])
    (fun v0 v1 v2 v3 v4 v5 M => V l G X 0 0 M 56 [(0, .ref v0), (1, .int v1), (2, .int v2), (3, .int v3), (4, .int v4), (5, .int v5)] [])
    (by
      intro v0 v1 v2 v3 s0 s1 M hf
      show V l G X 0 0 M 41 [(0, .ref v0), (1, .int v1), (2, .int v2), (3, .int v3)] [.int s0, .ref s1]
      refine r_iconst (v := 2) h dX10_writers_41 (by decide) ?_
      obtain ⟨k16, hf⟩ := hf
      refine c1929 hl h dX10_writers_42 k16 hf (Nat.le_of_ble_eq_true rfl) (by decide) (by decide) (fun x18 M17 hf => ?_)
      refine r_if_eq (tgt := 50) h dX10_writers_45 (by decide) (fun c19 => ?_) (fun c19 => ?_)
      · have hf := ite_t c19 hf
        refine r_iconst (v := 0) h dX10_writers_50 (by decide) ?_
        refine r_istore (lv' := [(4, .int 0), (0, .ref v0), (1, .int v1), (2, .int v2), (3, .int v3)]) h dX10_writers_51 (by decide) rfl ?_
        refine r_iconst (v := 0) h dX10_writers_53 (by decide) ?_
        refine r_istore (lv' := [(5, .int 0), (4, .int 0), (0, .ref v0), (1, .int v1), (2, .int v2), (3, .int v3)]) h dX10_writers_54 (by decide) rfl ?_
        exact V.sub [2, 3, 4, 5, 1, 0] rfl hf
      · have hf := ite_f c19 hf
        refine r_iconst (v := 0) h dX10_writers_48 (by decide) ?_
        exact r_ireturn h hq dX10_writers_49 ⟨_, rfl, hf⟩)
    (by
      intro v0 v1 v2 v3 v4 v5 M hf
      show V l G X 0 0 M 56 [(0, .ref v0), (1, .int v1), (2, .int v2), (3, .int v3), (4, .int v4), (5, .int v5)] []
      refine r_iload h 5 dX10_writers_56 rfl ?_
      refine r_aload_n h 0 dX10_writers_58 rfl rfl ?_
      obtain ⟨k20, hf⟩ := hf
      refine c1786 hl h dX10_writers_59 k20 hf (Nat.le_of_ble_eq_true rfl) (by decide) (by decide) (fun x22 M21 hf => ?_)
      refine r_icmp_ge (tgt := 96) h dX10_writers_62 (by decide) (fun c23 => ?_) (fun c23 => ?_)
      · have hf := ite_t c23 hf
        refine r_iload h 4 dX10_writers_96 rfl ?_
        exact r_ireturn h hq dX10_writers_98 ⟨_, rfl, hf⟩
      · have hf := ite_f c23 hf
        refine r_iload h 4 dX10_writers_65 rfl ?_
        refine r_aload_n h 0 dX10_writers_67 rfl rfl ?_
        refine r_iload h 5 dX10_writers_68 rfl ?_
        refine r_iload_n h 1 dX10_writers_70 rfl rfl ?_
        refine r_iload_n h 2 dX10_writers_71 rfl rfl ?_
        refine r_iload_n h 3 dX10_writers_72 rfl rfl ?_
        obtain ⟨k24, hf⟩ := hf
        refine c2157 hl h dX10_writers_73 k24 hf (Nat.le_of_ble_eq_true rfl) (by decide) (by decide) (fun x26 M25 hf => ?_)
        refine r_if_lt (tgt := 86) h dX10_writers_76 (by decide) (fun c27 => ?_) (fun c27 => ?_)
        · have hf := ite_t c27 hf
          refine r_iconst (v := 0) h dX10_writers_86 (by decide) ?_
          refine r_ior h dX10_writers_87 ?_
          refine r_istore (lv' := [(4, .int (v4 ||| 0)), (0, .ref v0), (1, .int v1), (2, .int v2), (3, .int v3), (5, .int v5)]) h dX10_writers_88 (by decide) rfl ?_
          refine r_iinc (v := v5 + 1) (lv' := [(5, .int (v5 + 1)), (4, .int (v4 ||| 0)), (0, .ref v0), (1, .int v1), (2, .int v2), (3, .int v3)]) h 5 dX10_writers_90 rfl rfl (by decide) rfl ?_
          refine r_goto (tgt := 56) h dX10_writers_93 (by decide) ?_
          exact V.sub [2, 3, 4, 5, 1, 0] rfl hf
        · have hf := ite_f c27 hf
          refine r_iconst (v := 1) h dX10_writers_79 (by decide) ?_
          refine r_iload h 5 dX10_writers_80 rfl ?_
          refine r_ishl h dX10_writers_82 ?_
          refine r_goto (tgt := 87) h dX10_writers_83 (by decide) ?_
          refine r_ior h dX10_writers_87 ?_
          refine r_istore (lv' := [(4, .int (v4 ||| ((1 : Int32) <<< (v5 &&& 31)))), (0, .ref v0), (1, .int v1), (2, .int v2), (3, .int v3), (5, .int v5)]) h dX10_writers_88 (by decide) rfl ?_
          refine r_iinc (v := v5 + 1) (lv' := [(5, .int (v5 + 1)), (4, .int (v4 ||| ((1 : Int32) <<< (v5 &&& 31)))), (0, .ref v0), (1, .int v1), (2, .int v2), (3, .int v3)]) h 5 dX10_writers_90 rfl rfl (by decide) rfl ?_
          refine r_goto (tgt := 56) h dX10_writers_93 (by decide) ?_
          exact V.sub [2, 3, 4, 5, 1, 0] rfl hf)
  refine r_aload_n h 0 dX10_writers_0 rfl rfl ?_
  refine r_iconst (v := 0) h dX10_writers_1 (by decide) ?_
  obtain ⟨k1, hf⟩ := hf
  refine p1597 h dX10_writers_2 k1 ?_
  refine r_goW (fun M2 eM2 => ?_)
  have hf := hf M2 eM2
  refine r_aload_n h 0 dX10_writers_5 rfl rfl ?_
  refine r_aload_n h 0 dX10_writers_6 rfl rfl ?_
  refine r_iload_n h 1 dX10_writers_7 rfl rfl ?_
  obtain ⟨k3, hf⟩ := hf
  refine c1951 hl h dX10_writers_8 k3 hf (Nat.le_of_ble_eq_true rfl) (by decide) (by decide) (fun x5 M4 hf => ?_)
  refine r_iconst (v := 1) h dX10_writers_11 (by decide) ?_
  obtain ⟨k6, hf⟩ := hf
  refine c1929 hl h dX10_writers_12 k6 hf (Nat.le_of_ble_eq_true rfl) (by decide) (by decide) (fun x8 M7 hf => ?_)
  refine r_if_ne (tgt := 48) h dX10_writers_15 (by decide) (fun c9 => ?_) (fun c9 => ?_)
  · have hf := ite_f c9 hf
    refine r_iconst (v := 0) h dX10_writers_48 (by decide) ?_
    exact r_ireturn h hq dX10_writers_49 ⟨_, rfl, hf⟩
  · have hf := ite_t c9 hf
    refine r_aload_n h 0 dX10_writers_18 rfl rfl ?_
    refine r_iload_n h 2 dX10_writers_19 rfl rfl ?_
    refine c1941 hl h dX10_writers_20 hf (Nat.le_of_ble_eq_true rfl) (by decide) (by decide) (fun x11 M10 hf => ?_)
    refine r_if_ne (tgt := 36) h dX10_writers_23 (by decide) (fun c12 => ?_) (fun c12 => ?_)
    · have hf := ite_f c12 hf
      refine r_iconst (v := 1) h dX10_writers_36 (by decide) ?_
      refine r_goto (tgt := 41) h dX10_writers_37 (by decide) ?_
      exact V.sub [0, 1, 2, 3] rfl hf
    · have hf := ite_t c12 hf
      refine r_iload_n h 3 dX10_writers_26 rfl rfl ?_
      refine r_iconst (v := 0) h dX10_writers_27 (by decide) ?_
      refine r_bipush (v := 99) h dX10_writers_28 (by decide) ?_
      refine c1944 hl h dX10_writers_30 hf (Nat.le_of_ble_eq_true rfl) (by decide) (by decide) (fun x14 M13 hf => ?_)
      refine r_if_ne (tgt := 40) h dX10_writers_33 (by decide) (fun c15 => ?_) (fun c15 => ?_)
      · have hf := ite_f c15 hf
        refine r_iconst (v := 0) h dX10_writers_40 (by decide) ?_
        exact V.sub [0, 1, 2, 3] rfl hf
      · have hf := ite_t c15 hf
        refine r_iconst (v := 1) h dX10_writers_36 (by decide) ?_
        refine r_goto (tgt := 41) h dX10_writers_37 (by decide) ?_
        exact V.sub [0, 1, 2, 3] rfl hf
theorem c2153 {l : Launch} {G : gG} {X : gX} {cc : ByteArray} {nL F L bc bs pc : Nat} {M : gM} {lv : List (Nat × Value)} {rest : List Value} {a0 : Nat} {a1 : Int32} {a2 : Int32} {a3 : Int32} {K : Int32 → gM → Prop} (hl : l.stackTraces = false) (h : hX l G X cc nL "GlacierMailLaw" F L) (d : decode cc pc = .ok (.invokevirtual 231, 3)) (hk : kd M a0 = some (.inl 10)) (hf : f_X10_writers a0 a1 a2 a3 M K) (hst : (rest.map fun v => v.category).sum ≤ 8) (hF : 9 ≤ F) (hL : 219 ≤ L) (kk : ∀ x M1, K x M1 → V l G X bc bs M1 (pc + 3) lv (.int x :: rest)) : V l G X bc bs M pc lv (.int a3 :: .int a2 :: .int a1 :: .ref a0 :: rest) := r_callV (n := 3) (As := [.int a1, .int a2, .int a3]) h (m_X10_writers hl hf) 10 rfl hk rfl ⟨by decide, by decide, by decide +kernel⟩ d q2153 q2154 q2155 q147 q2156 rfl rfl hst hF hL (Nat.zero_le _) (Nat.zero_le _) (kI_go kk) kN_go
def f_X10_wrote (a0 : Nat) (a1 : Int32) (a2 : Int32) (a3 : Int32) (a4 : Int32) (M : gM) (K : Int32 → gM → Prop) : Prop :=
  ∀ P27 : Nat → Int32 → Int32 → Int32 → Int32 → Int32 → Nat → gM → Prop,
  ∀ P58 : Nat → Int32 → Int32 → Int32 → Int32 → Int32 → Nat → gM → Prop,
  (∀ (v0 : Nat) (v1 : Int32) (v2 : Int32) (v3 : Int32) (v4 : Int32) (s0 : Int32) (s1 : Nat) (M : gM), (kd M s1 = some (.inl 10) ∧ f_X10_throwsIf s1 s0 1 M (fun x13 M12 => if x13 = 0 then f_X10_noYear v3 M12 (fun x16 M15 => if x16 = 0 then f_X10_in v4 0 99 M15 (fun x19 M18 => if x19 = 0 then P58 v0 v1 v2 v3 v4 1 v0 M18 else P58 v0 v1 v2 v3 v4 0 v0 M18) else P58 v0 v1 v2 v3 v4 1 v0 M15) else K 0 M12)) → P27 v0 v1 v2 v3 v4 s0 s1 M) →
  (∀ (v0 : Nat) (v1 : Int32) (v2 : Int32) (v3 : Int32) (v4 : Int32) (s0 : Int32) (s1 : Nat) (M : gM), (kd M s1 = some (.inl 10) ∧ f_X10_throwsIf s1 s0 2 M (fun x23 M22 => if x23 = 0 then kd M22 v0 = some (.inl 10) ∧ f_X10_wroteIn v0 v1 v2 v3 v4 M22 (fun x27 M26 => K x27 M26) else K 0 M22)) → P58 v0 v1 v2 v3 v4 s0 s1 M) →
  kd M a0 = some (.inl 10) ∧ ∀ M2, M2 = sI M a0 0 0 → kd M2 a0 = some (.inl 10) ∧ f_X10_noPerson a0 a1 M2 (fun x5 M4 => if x5 = 0 then kd M4 a0 = some (.inl 10) ∧ f_X10_noLane a0 a2 M4 (fun x9 M8 => if x9 = 0 then P27 a0 a1 a2 a3 a4 0 a0 M8 else P27 a0 a1 a2 a3 a4 1 a0 M8) else P27 a0 a1 a2 a3 a4 1 a0 M4)
set_option maxHeartbeats 4000000 in
theorem m_X10_wrote {l : Launch} (hl : l.stackTraces = false) {G : gG} {a0 : Nat} {a1 : Int32} {a2 : Int32} {a3 : Int32} {a4 : Int32} {M : gM} {K : Int32 → gM → Prop} (hf : f_X10_wrote a0 a1 a2 a3 a4 M K) : gMet l G yX10_wrote (ws_ yX10_wrote cX10_wrote 5 (some Jvm.ClassFile.FieldType.int)) ({ frames := 8, cells := 0, slots := 0, locals := 194 }) M [.ref a0, .int a1, .int a2, .int a3, .int a4] (kI K) kN := by
  refine gm_of hl (ret := (some Jvm.ClassFile.FieldType.int)) rfl (Nat.le_of_ble_eq_true rfl) (fun X h hq => ?_)
  have h : hX l G X cX10_wrote 5 "GlacierMailModel" 8 194 := h
  have hf := hf
  show V l G X 0 0 M 0 [(0, .ref a0), (1, .int a1), (2, .int a2), (3, .int a3), (4, .int a4)] []
  have hf := hf
    (fun v0 v1 v2 v3 v4 s0 s1 M => V l G X 0 0 M 27 [(0, .ref v0), (1, .int v1), (2, .int v2), (3, .int v3), (4, .int v4)] [.int s0, .ref s1])
    (fun v0 v1 v2 v3 v4 s0 s1 M => V l G X 0 0 M 58 [(0, .ref v0), (1, .int v1), (2, .int v2), (3, .int v3), (4, .int v4)] [.int s0, .ref s1])
    (by
      intro v0 v1 v2 v3 v4 s0 s1 M hf
      show V l G X 0 0 M 27 [(0, .ref v0), (1, .int v1), (2, .int v2), (3, .int v3), (4, .int v4)] [.int s0, .ref s1]
      refine r_iconst (v := 1) h dX10_wrote_27 (by decide) ?_
      obtain ⟨k11, hf⟩ := hf
      refine c1929 hl h dX10_wrote_28 k11 hf (Nat.le_of_ble_eq_true rfl) (by decide) (by decide) (fun x13 M12 hf => ?_)
      refine r_if_ne (tgt := 65) h dX10_wrote_31 (by decide) (fun c14 => ?_) (fun c14 => ?_)
      · have hf := ite_f c14 hf
        refine r_iconst (v := 0) h dX10_wrote_65 (by decide) ?_
        exact r_ireturn h hq dX10_wrote_66 ⟨_, rfl, hf⟩
      · have hf := ite_t c14 hf
        refine r_aload_n h 0 dX10_wrote_34 rfl rfl ?_
        refine r_iload_n h 3 dX10_wrote_35 rfl rfl ?_
        refine c1941 hl h dX10_wrote_36 hf (Nat.le_of_ble_eq_true rfl) (by decide) (by decide) (fun x16 M15 hf => ?_)
        refine r_if_ne (tgt := 53) h dX10_wrote_39 (by decide) (fun c17 => ?_) (fun c17 => ?_)
        · have hf := ite_f c17 hf
          refine r_iconst (v := 1) h dX10_wrote_53 (by decide) ?_
          refine r_goto (tgt := 58) h dX10_wrote_54 (by decide) ?_
          exact V.sub [0, 1, 2, 3, 4] rfl hf
        · have hf := ite_t c17 hf
          refine r_iload h 4 dX10_wrote_42 rfl ?_
          refine r_iconst (v := 0) h dX10_wrote_44 (by decide) ?_
          refine r_bipush (v := 99) h dX10_wrote_45 (by decide) ?_
          refine c1944 hl h dX10_wrote_47 hf (Nat.le_of_ble_eq_true rfl) (by decide) (by decide) (fun x19 M18 hf => ?_)
          refine r_if_ne (tgt := 57) h dX10_wrote_50 (by decide) (fun c20 => ?_) (fun c20 => ?_)
          · have hf := ite_f c20 hf
            refine r_iconst (v := 0) h dX10_wrote_57 (by decide) ?_
            exact V.sub [0, 1, 2, 3, 4] rfl hf
          · have hf := ite_t c20 hf
            refine r_iconst (v := 1) h dX10_wrote_53 (by decide) ?_
            refine r_goto (tgt := 58) h dX10_wrote_54 (by decide) ?_
            exact V.sub [0, 1, 2, 3, 4] rfl hf)
    (by
      intro v0 v1 v2 v3 v4 s0 s1 M hf
      show V l G X 0 0 M 58 [(0, .ref v0), (1, .int v1), (2, .int v2), (3, .int v3), (4, .int v4)] [.int s0, .ref s1]
      refine r_iconst (v := 2) h dX10_wrote_58 (by decide) ?_
      obtain ⟨k21, hf⟩ := hf
      refine c1929 hl h dX10_wrote_59 k21 hf (Nat.le_of_ble_eq_true rfl) (by decide) (by decide) (fun x23 M22 hf => ?_)
      refine r_if_eq (tgt := 67) h dX10_wrote_62 (by decide) (fun c24 => ?_) (fun c24 => ?_)
      · have hf := ite_t c24 hf
        refine r_aload_n h 0 dX10_wrote_67 rfl rfl ?_
        refine r_iload_n h 1 dX10_wrote_68 rfl rfl ?_
        refine r_iload_n h 2 dX10_wrote_69 rfl rfl ?_
        refine r_iload_n h 3 dX10_wrote_70 rfl rfl ?_
        refine r_iload h 4 dX10_wrote_71 rfl ?_
        obtain ⟨k25, hf⟩ := hf
        refine c2157 hl h dX10_wrote_73 k25 hf (Nat.le_of_ble_eq_true rfl) (by decide) (by decide) (fun x27 M26 hf => ?_)
        exact r_ireturn h hq dX10_wrote_76 ⟨_, rfl, hf⟩
      · have hf := ite_f c24 hf
        refine r_iconst (v := 0) h dX10_wrote_65 (by decide) ?_
        exact r_ireturn h hq dX10_wrote_66 ⟨_, rfl, hf⟩)
  refine r_aload_n h 0 dX10_wrote_0 rfl rfl ?_
  refine r_iconst (v := 0) h dX10_wrote_1 (by decide) ?_
  obtain ⟨k1, hf⟩ := hf
  refine p1597 h dX10_wrote_2 k1 ?_
  refine r_goW (fun M2 eM2 => ?_)
  have hf := hf M2 eM2
  refine r_aload_n h 0 dX10_wrote_5 rfl rfl ?_
  refine r_aload_n h 0 dX10_wrote_6 rfl rfl ?_
  refine r_iload_n h 1 dX10_wrote_7 rfl rfl ?_
  obtain ⟨k3, hf⟩ := hf
  refine c1993 hl h dX10_wrote_8 k3 hf (Nat.le_of_ble_eq_true rfl) (by decide) (by decide) (fun x5 M4 hf => ?_)
  refine r_if_ne (tgt := 22) h dX10_wrote_11 (by decide) (fun c6 => ?_) (fun c6 => ?_)
  · have hf := ite_f c6 hf
    refine r_iconst (v := 1) h dX10_wrote_22 (by decide) ?_
    refine r_goto (tgt := 27) h dX10_wrote_23 (by decide) ?_
    exact V.sub [0, 1, 2, 3, 4] rfl hf
  · have hf := ite_t c6 hf
    refine r_aload_n h 0 dX10_wrote_14 rfl rfl ?_
    refine r_iload_n h 2 dX10_wrote_15 rfl rfl ?_
    obtain ⟨k7, hf⟩ := hf
    refine c1951 hl h dX10_wrote_16 k7 hf (Nat.le_of_ble_eq_true rfl) (by decide) (by decide) (fun x9 M8 hf => ?_)
    refine r_if_eq (tgt := 26) h dX10_wrote_19 (by decide) (fun c10 => ?_) (fun c10 => ?_)
    · have hf := ite_t c10 hf
      refine r_iconst (v := 0) h dX10_wrote_26 (by decide) ?_
      exact V.sub [0, 1, 2, 3, 4] rfl hf
    · have hf := ite_f c10 hf
      refine r_iconst (v := 1) h dX10_wrote_22 (by decide) ?_
      refine r_goto (tgt := 27) h dX10_wrote_23 (by decide) ?_
      exact V.sub [0, 1, 2, 3, 4] rfl hf
theorem c2161 {l : Launch} {G : gG} {X : gX} {cc : ByteArray} {nL F L bc bs pc : Nat} {M : gM} {lv : List (Nat × Value)} {rest : List Value} {a0 : Nat} {a1 : Int32} {a2 : Int32} {a3 : Int32} {a4 : Int32} {K : Int32 → gM → Prop} (hl : l.stackTraces = false) (h : hX l G X cc nL "GlacierMailLaw" F L) (d : decode cc pc = .ok (.invokevirtual 234, 3)) (hk : kd M a0 = some (.inl 10)) (hf : f_X10_wrote a0 a1 a2 a3 a4 M K) (hst : (rest.map fun v => v.category).sum ≤ 8) (hF : 9 ≤ F) (hL : 218 ≤ L) (kk : ∀ x M1, K x M1 → V l G X bc bs M1 (pc + 3) lv (.int x :: rest)) : V l G X bc bs M pc lv (.int a4 :: .int a3 :: .int a2 :: .int a1 :: .ref a0 :: rest) := r_callV (n := 4) (As := [.int a1, .int a2, .int a3, .int a4]) h (m_X10_wrote hl hf) 10 rfl hk rfl ⟨by decide, by decide, by decide +kernel⟩ d q2161 q2162 q2163 q147 q2164 rfl rfl hst hF hL (Nat.zero_le _) (Nat.zero_le _) (kI_go kk) kN_go
def f_X10_noTable (a0 : Nat) (a1 : Int32) (M : gM) (K : Int32 → gM → Prop) : Prop :=
  kd M a0 = some (.inl 10) ∧ ∃ b2, rv M a0 1 = some b2 ∧ inA M b2 0 6 ∧ f_X10_in a1 0 ((iv M b2 (ix 6)) - 1) M (fun x6 M5 => if x6 = 0 then K 1 M5 else K 0 M5)
set_option maxHeartbeats 4000000 in
theorem m_X10_noTable {l : Launch} (hl : l.stackTraces = false) {G : gG} {a0 : Nat} {a1 : Int32} {M : gM} {K : Int32 → gM → Prop} (hf : f_X10_noTable a0 a1 M K) : gMet l G yX10_noTable (ws_ yX10_noTable cX10_noTable 2 (some Jvm.ClassFile.FieldType.boolean)) ({ frames := 1, cells := 0, slots := 0, locals := 22 }) M [.ref a0, .int a1] (kI K) kN := by
  refine gm_of hl (ret := (some Jvm.ClassFile.FieldType.boolean)) rfl (Nat.le_of_ble_eq_true rfl) (fun X h hq => ?_)
  have h : hX l G X cX10_noTable 2 "GlacierMailModel" 1 22 := h
  have hf := hf
  show V l G X 0 0 M 0 [(0, .ref a0), (1, .int a1)] []
  unfold f_X10_noTable at hf
  refine r_iload_n h 1 dX10_noTable_0 rfl rfl ?_
  refine r_iconst (v := 0) h dX10_noTable_1 (by decide) ?_
  refine r_aload_n h 0 dX10_noTable_2 rfl rfl ?_
  obtain ⟨k1, hf⟩ := hf
  obtain ⟨b2, e3, hf⟩ := hf
  refine g1598 h dX10_noTable_3 k1 e3 ?_
  refine r_bipush (v := 6) h dX10_noTable_6 (by decide) ?_
  obtain ⟨j4, hf⟩ := hf
  refine r_iaload h dX10_noTable_8 j4 ?_
  refine r_iconst (v := 1) h dX10_noTable_9 (by decide) ?_
  refine r_isub h dX10_noTable_10 ?_
  refine c1944 hl h dX10_noTable_11 hf (Nat.le_of_ble_eq_true rfl) (by decide) (by decide) (fun x6 M5 hf => ?_)
  refine r_if_ne (tgt := 21) h dX10_noTable_14 (by decide) (fun c7 => ?_) (fun c7 => ?_)
  · have hf := ite_f c7 hf
    refine r_iconst (v := 0) h dX10_noTable_21 (by decide) ?_
    exact r_zreturn h hq dX10_noTable_22 (by decide) ⟨_, rfl, hf⟩
  · have hf := ite_t c7 hf
    refine r_iconst (v := 1) h dX10_noTable_17 (by decide) ?_
    refine r_goto (tgt := 22) h dX10_noTable_18 (by decide) ?_
    exact r_zreturn h hq dX10_noTable_22 (by decide) ⟨_, rfl, hf⟩
theorem c2169 {l : Launch} {G : gG} {X : gX} {cc : ByteArray} {nL F L bc bs pc : Nat} {M : gM} {lv : List (Nat × Value)} {rest : List Value} {a0 : Nat} {a1 : Int32} {K : Int32 → gM → Prop} (hl : l.stackTraces = false) (h : hX l G X cc nL "GlacierMailModel" F L) (d : decode cc pc = .ok (.invokevirtual 448, 3)) (hk : kd M a0 = some (.inl 10)) (hf : f_X10_noTable a0 a1 M K) (hst : (rest.map fun v => v.category).sum ≤ 8) (hF : 2 ≤ F) (hL : 43 ≤ L) (kk : ∀ x M1, K x M1 → V l G X bc bs M1 (pc + 3) lv (.int x :: rest)) : V l G X bc bs M pc lv (.int a1 :: .ref a0 :: rest) := r_callV (n := 1) (As := [.int a1]) h (m_X10_noTable hl hf) 10 rfl hk rfl ⟨by decide, by decide, by decide +kernel⟩ d q2169 q2171 qs126 q147 q2172 rfl rfl hst hF hL (Nat.zero_le _) (Nat.zero_le _) (kI_go kk) kN_go
def f_X10_ofTable (a0 : Nat) (a1 : Int32) (a2 : Int32) (M : gM) (K : Int32 → gM → Prop) : Prop :=
  kd M a0 = some (.inl 10) ∧ ∃ b2, rv M a0 1 = some b2 ∧ inA M b2 0 (((287 : Int32) + ((6 : Int32) * a1)) + a2) ∧ K (iv M b2 (ix (((287 : Int32) + ((6 : Int32) * a1)) + a2))) M
set_option maxHeartbeats 4000000 in
theorem m_X10_ofTable {l : Launch} (hl : l.stackTraces = false) {G : gG} {a0 : Nat} {a1 : Int32} {a2 : Int32} {M : gM} {K : Int32 → gM → Prop} (hf : f_X10_ofTable a0 a1 a2 M K) : gMet l G yX10_ofTable (ws_ yX10_ofTable cX10_ofTable 3 (some Jvm.ClassFile.FieldType.int)) ({ frames := 0, cells := 0, slots := 0, locals := 0 }) M [.ref a0, .int a1, .int a2] (kI K) kN := by
  refine gm_of hl (ret := (some Jvm.ClassFile.FieldType.int)) rfl (Nat.le_of_ble_eq_true rfl) (fun X h hq => ?_)
  have h : hX l G X cX10_ofTable 3 "GlacierMailModel" 0 0 := h
  have hf := hf
  show V l G X 0 0 M 0 [(0, .ref a0), (1, .int a1), (2, .int a2)] []
  unfold f_X10_ofTable at hf
  refine r_aload_n h 0 dX10_ofTable_0 rfl rfl ?_
  obtain ⟨k1, hf⟩ := hf
  obtain ⟨b2, e3, hf⟩ := hf
  refine g1598 h dX10_ofTable_1 k1 e3 ?_
  refine r_sipush (v := 287) h dX10_ofTable_4 (by decide) ?_
  refine r_bipush (v := 6) h dX10_ofTable_7 (by decide) ?_
  refine r_iload_n h 1 dX10_ofTable_9 rfl rfl ?_
  refine r_imul h dX10_ofTable_10 ?_
  refine r_iadd h dX10_ofTable_11 ?_
  refine r_iload_n h 2 dX10_ofTable_12 rfl rfl ?_
  refine r_iadd h dX10_ofTable_13 ?_
  obtain ⟨j4, hf⟩ := hf
  refine r_iaload h dX10_ofTable_14 j4 ?_
  exact r_ireturn h hq dX10_ofTable_15 ⟨_, rfl, hf⟩
theorem c2173 {l : Launch} {G : gG} {X : gX} {cc : ByteArray} {nL F L bc bs pc : Nat} {M : gM} {lv : List (Nat × Value)} {rest : List Value} {a0 : Nat} {a1 : Int32} {a2 : Int32} {K : Int32 → gM → Prop} (hl : l.stackTraces = false) (h : hX l G X cc nL "GlacierMailModel" F L) (d : decode cc pc = .ok (.invokevirtual 451, 3)) (hk : kd M a0 = some (.inl 10)) (hf : f_X10_ofTable a0 a1 a2 M K) (hst : (rest.map fun v => v.category).sum ≤ 8) (hF : 1 ≤ F) (hL : 22 ≤ L) (kk : ∀ x M1, K x M1 → V l G X bc bs M1 (pc + 3) lv (.int x :: rest)) : V l G X bc bs M pc lv (.int a2 :: .int a1 :: .ref a0 :: rest) := r_callV (n := 2) (As := [.int a1, .int a2]) h (m_X10_ofTable hl hf) 10 rfl hk rfl ⟨by decide, by decide, by decide +kernel⟩ d q2173 q2175 qs127 q147 q2176 rfl rfl hst hF hL (Nat.zero_le _) (Nat.zero_le _) (kI_go kk) kN_go
def f_X10_table (a0 : Nat) (a1 : Int32) (a2 : Int32) (M : gM) (K : Int32 → gM → Prop) : Prop :=
  ∀ P27 : Nat → Int32 → Int32 → Int32 → Nat → gM → Prop,
  (∀ (v0 : Nat) (v1 : Int32) (v2 : Int32) (s0 : Int32) (s1 : Nat) (M : gM), (kd M s1 = some (.inl 10) ∧ f_X10_throwsIf s1 s0 1 M (fun x13 M12 => if x13 = 0 then kd M12 v0 = some (.inl 10) ∧ f_X10_ofTable v0 v1 v2 M12 (fun x17 M16 => K x17 M16) else K 0 M12)) → P27 v0 v1 v2 s0 s1 M) →
  kd M a0 = some (.inl 10) ∧ ∀ M2, M2 = sI M a0 0 0 → kd M2 a0 = some (.inl 10) ∧ f_X10_noTable a0 a1 M2 (fun x5 M4 => if x5 = 0 then kd M4 a0 = some (.inl 10) ∧ f_X10_noLane a0 a2 M4 (fun x9 M8 => if x9 = 0 then P27 a0 a1 a2 0 a0 M8 else P27 a0 a1 a2 1 a0 M8) else P27 a0 a1 a2 1 a0 M4)
set_option maxHeartbeats 4000000 in
theorem m_X10_table {l : Launch} (hl : l.stackTraces = false) {G : gG} {a0 : Nat} {a1 : Int32} {a2 : Int32} {M : gM} {K : Int32 → gM → Prop} (hf : f_X10_table a0 a1 a2 M K) : gMet l G yX10_table (ws_ yX10_table cX10_table 3 (some Jvm.ClassFile.FieldType.int)) ({ frames := 2, cells := 0, slots := 0, locals := 43 }) M [.ref a0, .int a1, .int a2] (kI K) kN := by
  refine gm_of hl (ret := (some Jvm.ClassFile.FieldType.int)) rfl (Nat.le_of_ble_eq_true rfl) (fun X h hq => ?_)
  have h : hX l G X cX10_table 3 "GlacierMailModel" 2 43 := h
  have hf := hf
  show V l G X 0 0 M 0 [(0, .ref a0), (1, .int a1), (2, .int a2)] []
  have hf := hf
    (fun v0 v1 v2 s0 s1 M => V l G X 0 0 M 27 [(0, .ref v0), (1, .int v1), (2, .int v2)] [.int s0, .ref s1])
    (by
      intro v0 v1 v2 s0 s1 M hf
      show V l G X 0 0 M 27 [(0, .ref v0), (1, .int v1), (2, .int v2)] [.int s0, .ref s1]
      refine r_iconst (v := 1) h dX10_table_27 (by decide) ?_
      obtain ⟨k11, hf⟩ := hf
      refine c1929 hl h dX10_table_28 k11 hf (Nat.le_of_ble_eq_true rfl) (by decide) (by decide) (fun x13 M12 hf => ?_)
      refine r_if_eq (tgt := 38) h dX10_table_31 (by decide) (fun c14 => ?_) (fun c14 => ?_)
      · have hf := ite_t c14 hf
        refine r_aload_n h 0 dX10_table_38 rfl rfl ?_
        refine r_iload_n h 1 dX10_table_39 rfl rfl ?_
        refine r_iload_n h 2 dX10_table_40 rfl rfl ?_
        obtain ⟨k15, hf⟩ := hf
        refine c2173 hl h dX10_table_41 k15 hf (Nat.le_of_ble_eq_true rfl) (by decide) (by decide) (fun x17 M16 hf => ?_)
        exact r_ireturn h hq dX10_table_44 ⟨_, rfl, hf⟩
      · have hf := ite_f c14 hf
        refine r_iconst (v := 0) h dX10_table_34 (by decide) ?_
        refine r_goto (tgt := 44) h dX10_table_35 (by decide) ?_
        exact r_ireturn h hq dX10_table_44 ⟨_, rfl, hf⟩)
  refine r_aload_n h 0 dX10_table_0 rfl rfl ?_
  refine r_iconst (v := 0) h dX10_table_1 (by decide) ?_
  obtain ⟨k1, hf⟩ := hf
  refine p1597 h dX10_table_2 k1 ?_
  refine r_goW (fun M2 eM2 => ?_)
  have hf := hf M2 eM2
  refine r_aload_n h 0 dX10_table_5 rfl rfl ?_
  refine r_aload_n h 0 dX10_table_6 rfl rfl ?_
  refine r_iload_n h 1 dX10_table_7 rfl rfl ?_
  obtain ⟨k3, hf⟩ := hf
  refine c2169 hl h dX10_table_8 k3 hf (Nat.le_of_ble_eq_true rfl) (by decide) (by decide) (fun x5 M4 hf => ?_)
  refine r_if_ne (tgt := 22) h dX10_table_11 (by decide) (fun c6 => ?_) (fun c6 => ?_)
  · have hf := ite_f c6 hf
    refine r_iconst (v := 1) h dX10_table_22 (by decide) ?_
    refine r_goto (tgt := 27) h dX10_table_23 (by decide) ?_
    exact V.sub [0, 1, 2] rfl hf
  · have hf := ite_t c6 hf
    refine r_aload_n h 0 dX10_table_14 rfl rfl ?_
    refine r_iload_n h 2 dX10_table_15 rfl rfl ?_
    obtain ⟨k7, hf⟩ := hf
    refine c1951 hl h dX10_table_16 k7 hf (Nat.le_of_ble_eq_true rfl) (by decide) (by decide) (fun x9 M8 hf => ?_)
    refine r_if_eq (tgt := 26) h dX10_table_19 (by decide) (fun c10 => ?_) (fun c10 => ?_)
    · have hf := ite_t c10 hf
      refine r_iconst (v := 0) h dX10_table_26 (by decide) ?_
      exact V.sub [0, 1, 2] rfl hf
    · have hf := ite_f c10 hf
      refine r_iconst (v := 1) h dX10_table_22 (by decide) ?_
      refine r_goto (tgt := 27) h dX10_table_23 (by decide) ?_
      exact V.sub [0, 1, 2] rfl hf
theorem c2165 {l : Launch} {G : gG} {X : gX} {cc : ByteArray} {nL F L bc bs pc : Nat} {M : gM} {lv : List (Nat × Value)} {rest : List Value} {a0 : Nat} {a1 : Int32} {a2 : Int32} {K : Int32 → gM → Prop} (hl : l.stackTraces = false) (h : hX l G X cc nL "GlacierMailLaw" F L) (d : decode cc pc = .ok (.invokevirtual 237, 3)) (hk : kd M a0 = some (.inl 10)) (hf : f_X10_table a0 a1 a2 M K) (hst : (rest.map fun v => v.category).sum ≤ 8) (hF : 3 ≤ F) (hL : 65 ≤ L) (kk : ∀ x M1, K x M1 → V l G X bc bs M1 (pc + 3) lv (.int x :: rest)) : V l G X bc bs M pc lv (.int a2 :: .int a1 :: .ref a0 :: rest) := r_callV (n := 2) (As := [.int a1, .int a2]) h (m_X10_table hl hf) 10 rfl hk rfl ⟨by decide, by decide, by decide +kernel⟩ d q2165 q2166 q2167 q147 q2168 rfl rfl hst hF hL (Nat.zero_le _) (Nat.zero_le _) (kI_go kk) kN_go
def f_X10_has (a0 : Int32) (a1 : Int32) (M : gM) (K : Int32 → gM → Prop) : Prop :=
  if ((a0 >>> (a1 &&& 31)) &&& 1) = 1 then K 1 M else K 0 M
set_option maxHeartbeats 4000000 in
theorem m_X10_has {l : Launch} (hl : l.stackTraces = false) {G : gG} {a0 : Int32} {a1 : Int32} {M : gM} {K : Int32 → gM → Prop} (hf : f_X10_has a0 a1 M K) : gMet l G yX10_has (ws_ yX10_has cX10_has 2 (some Jvm.ClassFile.FieldType.boolean)) ({ frames := 0, cells := 0, slots := 0, locals := 0 }) M [.int a0, .int a1] (kI K) kN := by
  refine gm_of hl (ret := (some Jvm.ClassFile.FieldType.boolean)) rfl (Nat.le_of_ble_eq_true rfl) (fun X h hq => ?_)
  have h : hX l G X cX10_has 2 "GlacierMailModel" 0 0 := h
  have hf := hf
  show V l G X 0 0 M 0 [(0, .int a0), (1, .int a1)] []
  unfold f_X10_has at hf
  refine r_iload_n h 0 dX10_has_0 rfl rfl ?_
  refine r_iload_n h 1 dX10_has_1 rfl rfl ?_
  refine r_ishr h dX10_has_2 ?_
  refine r_iconst (v := 1) h dX10_has_3 (by decide) ?_
  refine r_iand h dX10_has_4 ?_
  refine r_iconst (v := 1) h dX10_has_5 (by decide) ?_
  refine r_icmp_ne (tgt := 13) h dX10_has_6 (by decide) (fun c1 => ?_) (fun c1 => ?_)
  · have hf := ite_f c1 hf
    refine r_iconst (v := 0) h dX10_has_13 (by decide) ?_
    exact r_zreturn h hq dX10_has_14 (by decide) ⟨_, rfl, hf⟩
  · have hf := ite_t c1 hf
    refine r_iconst (v := 1) h dX10_has_9 (by decide) ?_
    refine r_goto (tgt := 14) h dX10_has_10 (by decide) ?_
    exact r_zreturn h hq dX10_has_14 (by decide) ⟨_, rfl, hf⟩
theorem c2185 {l : Launch} {G : gG} {X : gX} {cc : ByteArray} {nL F L bc bs pc : Nat} {M : gM} {lv : List (Nat × Value)} {rest : List Value} {a0 : Int32} {a1 : Int32} {K : Int32 → gM → Prop} (hl : l.stackTraces = false) (h : hX l G X cc nL "GlacierMailModel" F L) (d : decode cc pc = .ok (.invokestatic 454, 3)) (hf : f_X10_has a0 a1 M K) (hst : (rest.map fun v => v.category).sum ≤ 8) (hF : 1 ≤ F) (hL : 21 ≤ L) (kk : ∀ x M1, K x M1 → V l G X bc bs M1 (pc + 3) lv (.int x :: rest)) : V l G X bc bs M pc lv (.int a1 :: .int a0 :: rest) := r_callS (n := 2) (As := [.int a0, .int a1]) h (m_X10_has hl hf) ⟨by decide, by decide, by decide +kernel⟩ d q2185 q2186 q147 q2187 rfl rfl hst hF hL (Nat.zero_le _) (Nat.zero_le _) (kI_go kk) kN_go
def f_X10_areApart (a0 : Nat) (a1 : Int32) (a2 : Int32) (a3 : Int32) (M : gM) (K : Int32 → gM → Prop) : Prop :=
  ∀ P6 : Nat → Int32 → Int32 → Int32 → Int32 → Int32 → gM → Prop,
  (∀ (v0 : Nat) (v1 : Int32) (v2 : Int32) (v3 : Int32) (v4 : Int32) (v5 : Int32) (M : gM), (kd M v0 = some (.inl 10) ∧ f_X10_lanes v0 M (fun x3 M2 => if x3 ≤ v5 then (v4 = 0 ∨ v4 = 1) ∧ K v4 M2 else if v4 = 0 then f_X10_has v3 v5 M2 (fun x7 M6 => if x7 = 0 then P6 v0 v1 v2 v3 0 (v5 + 1) M6 else kd M6 v0 = some (.inl 10) ∧ f_X10_ofTable v0 v1 v5 M6 (fun x11 M10 => kd M10 v0 = some (.inl 10) ∧ f_X10_ofTable v0 v2 v5 M10 (fun x14 M13 => if x11 = x14 then P6 v0 v1 v2 v3 0 (v5 + 1) M13 else P6 v0 v1 v2 v3 1 (v5 + 1) M13))) else P6 v0 v1 v2 v3 1 (v5 + 1) M2)) → P6 v0 v1 v2 v3 v4 v5 M) →
  P6 a0 a1 a2 a3 0 0 M
set_option maxHeartbeats 4000000 in
theorem m_X10_areApart {l : Launch} (hl : l.stackTraces = false) {G : gG} {a0 : Nat} {a1 : Int32} {a2 : Int32} {a3 : Int32} {M : gM} {K : Int32 → gM → Prop} (hf : f_X10_areApart a0 a1 a2 a3 M K) : gMet l G yX10_areApart (ws_ yX10_areApart cX10_areApart 6 (some Jvm.ClassFile.FieldType.boolean)) ({ frames := 1, cells := 0, slots := 0, locals := 22 }) M [.ref a0, .int a1, .int a2, .int a3] (kI K) kN := by
  refine gm_of hl (ret := (some Jvm.ClassFile.FieldType.boolean)) rfl (Nat.le_of_ble_eq_true rfl) (fun X h hq => ?_)
  have h : hX l G X cX10_areApart 6 "GlacierMailModel" 1 22 := h
  have hf := hf
  show V l G X 0 0 M 0 [(0, .ref a0), (1, .int a1), (2, .int a2), (3, .int a3)] []
  have hf := hf
    (fun v0 v1 v2 v3 v4 v5 M => V l G X 0 0 M 6 [(0, .ref v0), (1, .int v1), (2, .int v2), (3, .int v3), (4, .int v4), (5, .int v5)] [])
    (by
      intro v0 v1 v2 v3 v4 v5 M hf
      show V l G X 0 0 M 6 [(0, .ref v0), (1, .int v1), (2, .int v2), (3, .int v3), (4, .int v4), (5, .int v5)] []
      refine r_iload h 5 dX10_areApart_6 rfl ?_
      refine r_aload_n h 0 dX10_areApart_8 rfl rfl ?_
      obtain ⟨k1, hf⟩ := hf
      refine c1820 hl h dX10_areApart_9 k1 hf (Nat.le_of_ble_eq_true rfl) (by decide) (by decide) (fun x3 M2 hf => ?_)
      refine r_icmp_ge (tgt := 59) h dX10_areApart_12 (by decide) (fun c4 => ?_) (fun c4 => ?_)
      · have hf := ite_t c4 hf
        refine r_iload h 4 dX10_areApart_59 rfl ?_
        exact r_zreturn h hq dX10_areApart_61 hf.1 ⟨_, rfl, hf.2⟩
      · have hf := ite_f c4 hf
        refine r_iload h 4 dX10_areApart_15 rfl ?_
        refine r_if_ne (tgt := 46) h dX10_areApart_17 (by decide) (fun c5 => ?_) (fun c5 => ?_)
        · have hf := ite_f c5 hf
          refine r_iconst (v := 1) h dX10_areApart_46 (by decide) ?_
          refine r_goto (tgt := 51) h dX10_areApart_47 (by decide) ?_
          refine r_istore (lv' := [(4, .int 1), (0, .ref v0), (1, .int v1), (2, .int v2), (3, .int v3), (5, .int v5)]) h dX10_areApart_51 (by decide) rfl ?_
          refine r_iinc (v := v5 + 1) (lv' := [(5, .int (v5 + 1)), (4, .int 1), (0, .ref v0), (1, .int v1), (2, .int v2), (3, .int v3)]) h 5 dX10_areApart_53 rfl rfl (by decide) rfl ?_
          refine r_goto (tgt := 6) h dX10_areApart_56 (by decide) ?_
          exact V.sub [2, 3, 4, 5, 1, 0] rfl hf
        · have hf := ite_t c5 hf
          refine r_iload_n h 3 dX10_areApart_20 rfl rfl ?_
          refine r_iload h 5 dX10_areApart_21 rfl ?_
          refine c2185 hl h dX10_areApart_23 hf (Nat.le_of_ble_eq_true rfl) (by decide) (by decide) (fun x7 M6 hf => ?_)
          refine r_if_eq (tgt := 50) h dX10_areApart_26 (by decide) (fun c8 => ?_) (fun c8 => ?_)
          · have hf := ite_t c8 hf
            refine r_iconst (v := 0) h dX10_areApart_50 (by decide) ?_
            refine r_istore (lv' := [(4, .int 0), (0, .ref v0), (1, .int v1), (2, .int v2), (3, .int v3), (5, .int v5)]) h dX10_areApart_51 (by decide) rfl ?_
            refine r_iinc (v := v5 + 1) (lv' := [(5, .int (v5 + 1)), (4, .int 0), (0, .ref v0), (1, .int v1), (2, .int v2), (3, .int v3)]) h 5 dX10_areApart_53 rfl rfl (by decide) rfl ?_
            refine r_goto (tgt := 6) h dX10_areApart_56 (by decide) ?_
            exact V.sub [2, 3, 4, 5, 1, 0] rfl hf
          · have hf := ite_f c8 hf
            refine r_aload_n h 0 dX10_areApart_29 rfl rfl ?_
            refine r_iload_n h 1 dX10_areApart_30 rfl rfl ?_
            refine r_iload h 5 dX10_areApart_31 rfl ?_
            obtain ⟨k9, hf⟩ := hf
            refine c2173 hl h dX10_areApart_33 k9 hf (Nat.le_of_ble_eq_true rfl) (by decide) (by decide) (fun x11 M10 hf => ?_)
            refine r_aload_n h 0 dX10_areApart_36 rfl rfl ?_
            refine r_iload_n h 2 dX10_areApart_37 rfl rfl ?_
            refine r_iload h 5 dX10_areApart_38 rfl ?_
            obtain ⟨k12, hf⟩ := hf
            refine c2173 hl h dX10_areApart_40 k12 hf (Nat.le_of_ble_eq_true rfl) (by decide) (by decide) (fun x14 M13 hf => ?_)
            refine r_icmp_eq (tgt := 50) h dX10_areApart_43 (by decide) (fun c15 => ?_) (fun c15 => ?_)
            · have hf := ite_t c15 hf
              refine r_iconst (v := 0) h dX10_areApart_50 (by decide) ?_
              refine r_istore (lv' := [(4, .int 0), (0, .ref v0), (1, .int v1), (2, .int v2), (3, .int v3), (5, .int v5)]) h dX10_areApart_51 (by decide) rfl ?_
              refine r_iinc (v := v5 + 1) (lv' := [(5, .int (v5 + 1)), (4, .int 0), (0, .ref v0), (1, .int v1), (2, .int v2), (3, .int v3)]) h 5 dX10_areApart_53 rfl rfl (by decide) rfl ?_
              refine r_goto (tgt := 6) h dX10_areApart_56 (by decide) ?_
              exact V.sub [2, 3, 4, 5, 1, 0] rfl hf
            · have hf := ite_f c15 hf
              refine r_iconst (v := 1) h dX10_areApart_46 (by decide) ?_
              refine r_goto (tgt := 51) h dX10_areApart_47 (by decide) ?_
              refine r_istore (lv' := [(4, .int 1), (0, .ref v0), (1, .int v1), (2, .int v2), (3, .int v3), (5, .int v5)]) h dX10_areApart_51 (by decide) rfl ?_
              refine r_iinc (v := v5 + 1) (lv' := [(5, .int (v5 + 1)), (4, .int 1), (0, .ref v0), (1, .int v1), (2, .int v2), (3, .int v3)]) h 5 dX10_areApart_53 rfl rfl (by decide) rfl ?_
              refine r_goto (tgt := 6) h dX10_areApart_56 (by decide) ?_
              exact V.sub [2, 3, 4, 5, 1, 0] rfl hf)
  refine r_iconst (v := 0) h dX10_areApart_0 (by decide) ?_
  refine r_istore (lv' := [(4, .int 0), (0, .ref a0), (1, .int a1), (2, .int a2), (3, .int a3)]) h dX10_areApart_1 (by decide) rfl ?_
  refine r_iconst (v := 0) h dX10_areApart_3 (by decide) ?_
  refine r_istore (lv' := [(5, .int 0), (4, .int 0), (0, .ref a0), (1, .int a1), (2, .int a2), (3, .int a3)]) h dX10_areApart_4 (by decide) rfl ?_
  exact V.sub [2, 3, 4, 5, 1, 0] rfl hf
theorem c2181 {l : Launch} {G : gG} {X : gX} {cc : ByteArray} {nL F L bc bs pc : Nat} {M : gM} {lv : List (Nat × Value)} {rest : List Value} {a0 : Nat} {a1 : Int32} {a2 : Int32} {a3 : Int32} {K : Int32 → gM → Prop} (hl : l.stackTraces = false) (h : hX l G X cc nL "GlacierMailModel" F L) (d : decode cc pc = .ok (.invokevirtual 457, 3)) (hk : kd M a0 = some (.inl 10)) (hf : f_X10_areApart a0 a1 a2 a3 M K) (hst : (rest.map fun v => v.category).sum ≤ 8) (hF : 2 ≤ F) (hL : 47 ≤ L) (kk : ∀ x M1, K x M1 → V l G X bc bs M1 (pc + 3) lv (.int x :: rest)) : V l G X bc bs M pc lv (.int a3 :: .int a2 :: .int a1 :: .ref a0 :: rest) := r_callV (n := 3) (As := [.int a1, .int a2, .int a3]) h (m_X10_areApart hl hf) 10 rfl hk rfl ⟨by decide, by decide, by decide +kernel⟩ d q2181 q2183 qs128 q147 q2184 rfl rfl hst hF hL (Nat.zero_le _) (Nat.zero_le _) (kI_go kk) kN_go
def f_X10_apart (a0 : Nat) (a1 : Int32) (a2 : Int32) (a3 : Int32) (M : gM) (K : Int32 → gM → Prop) : Prop :=
  ∀ P27 : Nat → Int32 → Int32 → Int32 → Int32 → Nat → gM → Prop,
  (∀ (v0 : Nat) (v1 : Int32) (v2 : Int32) (v3 : Int32) (s0 : Int32) (s1 : Nat) (M : gM), (kd M s1 = some (.inl 10) ∧ f_X10_throwsIf s1 s0 1 M (fun x13 M12 => if x13 = 0 then kd M12 v0 = some (.inl 10) ∧ f_X10_areApart v0 v1 v2 v3 M12 (fun x17 M16 => if x17 = 0 then K 0 M16 else K 1 M16) else K 0 M12)) → P27 v0 v1 v2 v3 s0 s1 M) →
  kd M a0 = some (.inl 10) ∧ ∀ M2, M2 = sI M a0 0 0 → kd M2 a0 = some (.inl 10) ∧ f_X10_noTable a0 a1 M2 (fun x5 M4 => if x5 = 0 then kd M4 a0 = some (.inl 10) ∧ f_X10_noTable a0 a2 M4 (fun x9 M8 => if x9 = 0 then P27 a0 a1 a2 a3 0 a0 M8 else P27 a0 a1 a2 a3 1 a0 M8) else P27 a0 a1 a2 a3 1 a0 M4)
set_option maxHeartbeats 4000000 in
theorem m_X10_apart {l : Launch} (hl : l.stackTraces = false) {G : gG} {a0 : Nat} {a1 : Int32} {a2 : Int32} {a3 : Int32} {M : gM} {K : Int32 → gM → Prop} (hf : f_X10_apart a0 a1 a2 a3 M K) : gMet l G yX10_apart (ws_ yX10_apart cX10_apart 4 (some Jvm.ClassFile.FieldType.boolean)) ({ frames := 2, cells := 0, slots := 0, locals := 47 }) M [.ref a0, .int a1, .int a2, .int a3] (kI K) kN := by
  refine gm_of hl (ret := (some Jvm.ClassFile.FieldType.boolean)) rfl (Nat.le_of_ble_eq_true rfl) (fun X h hq => ?_)
  have h : hX l G X cX10_apart 4 "GlacierMailModel" 2 47 := h
  have hf := hf
  show V l G X 0 0 M 0 [(0, .ref a0), (1, .int a1), (2, .int a2), (3, .int a3)] []
  have hf := hf
    (fun v0 v1 v2 v3 s0 s1 M => V l G X 0 0 M 27 [(0, .ref v0), (1, .int v1), (2, .int v2), (3, .int v3)] [.int s0, .ref s1])
    (by
      intro v0 v1 v2 v3 s0 s1 M hf
      show V l G X 0 0 M 27 [(0, .ref v0), (1, .int v1), (2, .int v2), (3, .int v3)] [.int s0, .ref s1]
      refine r_iconst (v := 1) h dX10_apart_27 (by decide) ?_
      obtain ⟨k11, hf⟩ := hf
      refine c1929 hl h dX10_apart_28 k11 hf (Nat.le_of_ble_eq_true rfl) (by decide) (by decide) (fun x13 M12 hf => ?_)
      refine r_if_ne (tgt := 48) h dX10_apart_31 (by decide) (fun c14 => ?_) (fun c14 => ?_)
      · have hf := ite_f c14 hf
        refine r_iconst (v := 0) h dX10_apart_48 (by decide) ?_
        exact r_zreturn h hq dX10_apart_49 (by decide) ⟨_, rfl, hf⟩
      · have hf := ite_t c14 hf
        refine r_aload_n h 0 dX10_apart_34 rfl rfl ?_
        refine r_iload_n h 1 dX10_apart_35 rfl rfl ?_
        refine r_iload_n h 2 dX10_apart_36 rfl rfl ?_
        refine r_iload_n h 3 dX10_apart_37 rfl rfl ?_
        obtain ⟨k15, hf⟩ := hf
        refine c2181 hl h dX10_apart_38 k15 hf (Nat.le_of_ble_eq_true rfl) (by decide) (by decide) (fun x17 M16 hf => ?_)
        refine r_if_eq (tgt := 48) h dX10_apart_41 (by decide) (fun c18 => ?_) (fun c18 => ?_)
        · have hf := ite_t c18 hf
          refine r_iconst (v := 0) h dX10_apart_48 (by decide) ?_
          exact r_zreturn h hq dX10_apart_49 (by decide) ⟨_, rfl, hf⟩
        · have hf := ite_f c18 hf
          refine r_iconst (v := 1) h dX10_apart_44 (by decide) ?_
          refine r_goto (tgt := 49) h dX10_apart_45 (by decide) ?_
          exact r_zreturn h hq dX10_apart_49 (by decide) ⟨_, rfl, hf⟩)
  refine r_aload_n h 0 dX10_apart_0 rfl rfl ?_
  refine r_iconst (v := 0) h dX10_apart_1 (by decide) ?_
  obtain ⟨k1, hf⟩ := hf
  refine p1597 h dX10_apart_2 k1 ?_
  refine r_goW (fun M2 eM2 => ?_)
  have hf := hf M2 eM2
  refine r_aload_n h 0 dX10_apart_5 rfl rfl ?_
  refine r_aload_n h 0 dX10_apart_6 rfl rfl ?_
  refine r_iload_n h 1 dX10_apart_7 rfl rfl ?_
  obtain ⟨k3, hf⟩ := hf
  refine c2169 hl h dX10_apart_8 k3 hf (Nat.le_of_ble_eq_true rfl) (by decide) (by decide) (fun x5 M4 hf => ?_)
  refine r_if_ne (tgt := 22) h dX10_apart_11 (by decide) (fun c6 => ?_) (fun c6 => ?_)
  · have hf := ite_f c6 hf
    refine r_iconst (v := 1) h dX10_apart_22 (by decide) ?_
    refine r_goto (tgt := 27) h dX10_apart_23 (by decide) ?_
    exact V.sub [0, 1, 2, 3] rfl hf
  · have hf := ite_t c6 hf
    refine r_aload_n h 0 dX10_apart_14 rfl rfl ?_
    refine r_iload_n h 2 dX10_apart_15 rfl rfl ?_
    obtain ⟨k7, hf⟩ := hf
    refine c2169 hl h dX10_apart_16 k7 hf (Nat.le_of_ble_eq_true rfl) (by decide) (by decide) (fun x9 M8 hf => ?_)
    refine r_if_eq (tgt := 26) h dX10_apart_19 (by decide) (fun c10 => ?_) (fun c10 => ?_)
    · have hf := ite_t c10 hf
      refine r_iconst (v := 0) h dX10_apart_26 (by decide) ?_
      exact V.sub [0, 1, 2, 3] rfl hf
    · have hf := ite_f c10 hf
      refine r_iconst (v := 1) h dX10_apart_22 (by decide) ?_
      refine r_goto (tgt := 27) h dX10_apart_23 (by decide) ?_
      exact V.sub [0, 1, 2, 3] rfl hf
theorem c2177 {l : Launch} {G : gG} {X : gX} {cc : ByteArray} {nL F L bc bs pc : Nat} {M : gM} {lv : List (Nat × Value)} {rest : List Value} {a0 : Nat} {a1 : Int32} {a2 : Int32} {a3 : Int32} {K : Int32 → gM → Prop} (hl : l.stackTraces = false) (h : hX l G X cc nL "GlacierMailLaw" F L) (d : decode cc pc = .ok (.invokevirtual 240, 3)) (hk : kd M a0 = some (.inl 10)) (hf : f_X10_apart a0 a1 a2 a3 M K) (hst : (rest.map fun v => v.category).sum ≤ 8) (hF : 3 ≤ F) (hL : 70 ≤ L) (kk : ∀ x M1, K x M1 → V l G X bc bs M1 (pc + 3) lv (.int x :: rest)) : V l G X bc bs M pc lv (.int a3 :: .int a2 :: .int a1 :: .ref a0 :: rest) := r_callV (n := 3) (As := [.int a1, .int a2, .int a3]) h (m_X10_apart hl hf) 10 rfl hk rfl ⟨by decide, by decide, by decide +kernel⟩ d q2177 q2178 q2179 q147 q2180 rfl rfl hst hF hL (Nat.zero_le _) (Nat.zero_le _) (kI_go kk) kN_go
def f_X10_poles (a0 : Nat) (M : gM) (K : Int32 → gM → Prop) : Prop :=
  ∀ P9 : Nat → Int32 → Int32 → gM → Prop,
  ∀ P43 : Nat → Int32 → Int32 → Int32 → Int32 → gM → Prop,
  ∀ P58 : Nat → Int32 → Int32 → Int32 → Int32 → Int32 → gM → Prop,
  (∀ (v0 : Nat) (v1 : Int32) (v2 : Int32) (M : gM), (kd M v0 = some (.inl 10) ∧ f_X10_lanes v0 M (fun x5 M4 => if ((1 : Int32) <<< (x5 &&& 31)) ≤ v2 then K v1 M4 else if v1 < 0 then P43 v0 v1 v2 1 0 M4 else f_J14_bitCount v2 M4 (fun x9 M8 => f_J14_bitCount v1 M8 (fun x11 M10 => if x11 ≤ x9 then P43 v0 v1 v2 0 0 M10 else P43 v0 v1 v2 1 0 M10)))) → P9 v0 v1 v2 M) →
  (∀ (v0 : Nat) (v1 : Int32) (v2 : Int32) (v3 : Int32) (v4 : Int32) (M : gM), (kd M v0 = some (.inl 10) ∧ ∃ b14, rv M v0 1 = some b14 ∧ inA M b14 0 6 ∧ if (iv M b14 (ix 6)) ≤ v4 then if v3 = 0 then P9 v0 v1 (v2 + 1) M else P9 v0 v2 (v2 + 1) M else P58 v0 v1 v2 v3 v4 0 M) → P43 v0 v1 v2 v3 v4 M) →
  (∀ (v0 : Nat) (v1 : Int32) (v2 : Int32) (v3 : Int32) (v4 : Int32) (v5 : Int32) (M : gM), (if v4 ≤ v5 then P43 v0 v1 v2 v3 (v4 + 1) M else if v3 = 0 then P58 v0 v1 v2 0 v4 (v5 + 1) M else kd M v0 = some (.inl 10) ∧ f_X10_areApart v0 v4 v5 v2 M (fun x23 M22 => if x23 = 0 then P58 v0 v1 v2 0 v4 (v5 + 1) M22 else P58 v0 v1 v2 1 v4 (v5 + 1) M22)) → P58 v0 v1 v2 v3 v4 v5 M) →
  kd M a0 = some (.inl 10) ∧ ∀ M2, M2 = sI M a0 0 0 → P9 a0 (-1) 0 M2
set_option maxHeartbeats 4000000 in
theorem m_X10_poles {l : Launch} (hl : l.stackTraces = false) {G : gG} {a0 : Nat} {M : gM} {K : Int32 → gM → Prop} (hf : f_X10_poles a0 M K) : gMet l G yX10_poles (ws_ yX10_poles cX10_poles 6 (some Jvm.ClassFile.FieldType.int)) ({ frames := 2, cells := 0, slots := 0, locals := 47 }) M [.ref a0] (kI K) kN := by
  refine gm_of hl (ret := (some Jvm.ClassFile.FieldType.int)) rfl (Nat.le_of_ble_eq_true rfl) (fun X h hq => ?_)
  have h : hX l G X cX10_poles 6 "GlacierMailModel" 2 47 := h
  have hf := hf
  show V l G X 0 0 M 0 [(0, .ref a0)] []
  have hf := hf
    (fun v0 v1 v2 M => V l G X 0 0 M 9 [(0, .ref v0), (1, .int v1), (2, .int v2)] [])
    (fun v0 v1 v2 v3 v4 M => V l G X 0 0 M 43 [(0, .ref v0), (1, .int v1), (2, .int v2), (3, .int v3), (4, .int v4)] [])
    (fun v0 v1 v2 v3 v4 v5 M => V l G X 0 0 M 58 [(0, .ref v0), (1, .int v1), (2, .int v2), (3, .int v3), (4, .int v4), (5, .int v5)] [])
    (by
      intro v0 v1 v2 M hf
      show V l G X 0 0 M 9 [(0, .ref v0), (1, .int v1), (2, .int v2)] []
      refine r_iload_n h 2 dX10_poles_9 rfl rfl ?_
      refine r_iconst (v := 1) h dX10_poles_10 (by decide) ?_
      refine r_aload_n h 0 dX10_poles_11 rfl rfl ?_
      obtain ⟨k3, hf⟩ := hf
      refine c1820 hl h dX10_poles_12 k3 hf (Nat.le_of_ble_eq_true rfl) (by decide) (by decide) (fun x5 M4 hf => ?_)
      refine r_ishl h dX10_poles_15 ?_
      refine r_icmp_ge (tgt := 115) h dX10_poles_16 (by decide) (fun c6 => ?_) (fun c6 => ?_)
      · have hf := ite_t c6 hf
        refine r_iload_n h 1 dX10_poles_115 rfl rfl ?_
        exact r_ireturn h hq dX10_poles_116 ⟨_, rfl, hf⟩
      · have hf := ite_f c6 hf
        refine r_iload_n h 1 dX10_poles_19 rfl rfl ?_
        refine r_if_lt (tgt := 34) h dX10_poles_20 (by decide) (fun c7 => ?_) (fun c7 => ?_)
        · have hf := ite_t c7 hf
          refine r_iconst (v := 1) h dX10_poles_34 (by decide) ?_
          refine r_goto (tgt := 39) h dX10_poles_35 (by decide) ?_
          refine r_istore_n (lv' := [(3, .int 1), (0, .ref v0), (1, .int v1), (2, .int v2)]) h dX10_poles_39 rfl (by decide) rfl ?_
          refine r_iconst (v := 0) h dX10_poles_40 (by decide) ?_
          refine r_istore (lv' := [(4, .int 0), (3, .int 1), (0, .ref v0), (1, .int v1), (2, .int v2)]) h dX10_poles_41 (by decide) rfl ?_
          exact V.sub [2, 3, 4, 1, 0] rfl hf
        · have hf := ite_f c7 hf
          refine r_iload_n h 2 dX10_poles_23 rfl rfl ?_
          refine c2192 hl h dX10_poles_24 hf (Nat.le_of_ble_eq_true rfl) (by decide) (by decide) (fun x9 M8 hf => ?_)
          refine r_iload_n h 1 dX10_poles_27 rfl rfl ?_
          refine c2192 hl h dX10_poles_28 hf (Nat.le_of_ble_eq_true rfl) (by decide) (by decide) (fun x11 M10 hf => ?_)
          refine r_icmp_ge (tgt := 38) h dX10_poles_31 (by decide) (fun c12 => ?_) (fun c12 => ?_)
          · have hf := ite_t c12 hf
            refine r_iconst (v := 0) h dX10_poles_38 (by decide) ?_
            refine r_istore_n (lv' := [(3, .int 0), (0, .ref v0), (1, .int v1), (2, .int v2)]) h dX10_poles_39 rfl (by decide) rfl ?_
            refine r_iconst (v := 0) h dX10_poles_40 (by decide) ?_
            refine r_istore (lv' := [(4, .int 0), (3, .int 0), (0, .ref v0), (1, .int v1), (2, .int v2)]) h dX10_poles_41 (by decide) rfl ?_
            exact V.sub [2, 3, 4, 1, 0] rfl hf
          · have hf := ite_f c12 hf
            refine r_iconst (v := 1) h dX10_poles_34 (by decide) ?_
            refine r_goto (tgt := 39) h dX10_poles_35 (by decide) ?_
            refine r_istore_n (lv' := [(3, .int 1), (0, .ref v0), (1, .int v1), (2, .int v2)]) h dX10_poles_39 rfl (by decide) rfl ?_
            refine r_iconst (v := 0) h dX10_poles_40 (by decide) ?_
            refine r_istore (lv' := [(4, .int 0), (3, .int 1), (0, .ref v0), (1, .int v1), (2, .int v2)]) h dX10_poles_41 (by decide) rfl ?_
            exact V.sub [2, 3, 4, 1, 0] rfl hf)
    (by
      intro v0 v1 v2 v3 v4 M hf
      show V l G X 0 0 M 43 [(0, .ref v0), (1, .int v1), (2, .int v2), (3, .int v3), (4, .int v4)] []
      refine r_iload h 4 dX10_poles_43 rfl ?_
      refine r_aload_n h 0 dX10_poles_45 rfl rfl ?_
      obtain ⟨k13, hf⟩ := hf
      obtain ⟨b14, e15, hf⟩ := hf
      refine g1598 h dX10_poles_46 k13 e15 ?_
      refine r_bipush (v := 6) h dX10_poles_49 (by decide) ?_
      obtain ⟨j16, hf⟩ := hf
      refine r_iaload h dX10_poles_51 j16 ?_
      refine r_icmp_ge (tgt := 99) h dX10_poles_52 (by decide) (fun c17 => ?_) (fun c17 => ?_)
      · have hf := ite_t c17 hf
        refine r_iload_n h 3 dX10_poles_99 rfl rfl ?_
        refine r_if_eq (tgt := 107) h dX10_poles_100 (by decide) (fun c18 => ?_) (fun c18 => ?_)
        · have hf := ite_t c18 hf
          refine r_iload_n h 1 dX10_poles_107 rfl rfl ?_
          refine r_istore_n (lv' := [(1, .int v1), (0, .ref v0), (2, .int v2), (3, .int v3), (4, .int v4)]) h dX10_poles_108 rfl (by decide) rfl ?_
          refine r_iinc (v := v2 + 1) (lv' := [(2, .int (v2 + 1)), (1, .int v1), (0, .ref v0), (3, .int v3), (4, .int v4)]) h 2 dX10_poles_109 rfl rfl (by decide) rfl ?_
          refine r_goto (tgt := 9) h dX10_poles_112 (by decide) ?_
          exact V.sub [2, 1, 0] rfl hf
        · have hf := ite_f c18 hf
          refine r_iload_n h 2 dX10_poles_103 rfl rfl ?_
          refine r_goto (tgt := 108) h dX10_poles_104 (by decide) ?_
          refine r_istore_n (lv' := [(1, .int v2), (0, .ref v0), (2, .int v2), (3, .int v3), (4, .int v4)]) h dX10_poles_108 rfl (by decide) rfl ?_
          refine r_iinc (v := v2 + 1) (lv' := [(2, .int (v2 + 1)), (1, .int v2), (0, .ref v0), (3, .int v3), (4, .int v4)]) h 2 dX10_poles_109 rfl rfl (by decide) rfl ?_
          refine r_goto (tgt := 9) h dX10_poles_112 (by decide) ?_
          exact V.sub [2, 1, 0] rfl hf
      · have hf := ite_f c17 hf
        refine r_iconst (v := 0) h dX10_poles_55 (by decide) ?_
        refine r_istore (lv' := [(5, .int 0), (0, .ref v0), (1, .int v1), (2, .int v2), (3, .int v3), (4, .int v4)]) h dX10_poles_56 (by decide) rfl ?_
        exact V.sub [1, 2, 3, 4, 5, 0] rfl hf)
    (by
      intro v0 v1 v2 v3 v4 v5 M hf
      show V l G X 0 0 M 58 [(0, .ref v0), (1, .int v1), (2, .int v2), (3, .int v3), (4, .int v4), (5, .int v5)] []
      refine r_iload h 5 dX10_poles_58 rfl ?_
      refine r_iload h 4 dX10_poles_60 rfl ?_
      refine r_icmp_ge (tgt := 93) h dX10_poles_62 (by decide) (fun c19 => ?_) (fun c19 => ?_)
      · have hf := ite_t c19 hf
        refine r_iinc (v := v4 + 1) (lv' := [(4, .int (v4 + 1)), (0, .ref v0), (1, .int v1), (2, .int v2), (3, .int v3), (5, .int v5)]) h 4 dX10_poles_93 rfl rfl (by decide) rfl ?_
        refine r_goto (tgt := 43) h dX10_poles_96 (by decide) ?_
        exact V.sub [1, 2, 3, 4, 0] rfl hf
      · have hf := ite_f c19 hf
        refine r_iload_n h 3 dX10_poles_65 rfl rfl ?_
        refine r_if_eq (tgt := 85) h dX10_poles_66 (by decide) (fun c20 => ?_) (fun c20 => ?_)
        · have hf := ite_t c20 hf
          refine r_iconst (v := 0) h dX10_poles_85 (by decide) ?_
          refine r_istore_n (lv' := [(3, .int 0), (0, .ref v0), (1, .int v1), (2, .int v2), (4, .int v4), (5, .int v5)]) h dX10_poles_86 rfl (by decide) rfl ?_
          refine r_iinc (v := v5 + 1) (lv' := [(5, .int (v5 + 1)), (3, .int 0), (0, .ref v0), (1, .int v1), (2, .int v2), (4, .int v4)]) h 5 dX10_poles_87 rfl rfl (by decide) rfl ?_
          refine r_goto (tgt := 58) h dX10_poles_90 (by decide) ?_
          exact V.sub [2, 3, 4, 1, 5, 0] rfl hf
        · have hf := ite_f c20 hf
          refine r_aload_n h 0 dX10_poles_69 rfl rfl ?_
          refine r_iload h 4 dX10_poles_70 rfl ?_
          refine r_iload h 5 dX10_poles_72 rfl ?_
          refine r_iload_n h 2 dX10_poles_74 rfl rfl ?_
          obtain ⟨k21, hf⟩ := hf
          refine c2181 hl h dX10_poles_75 k21 hf (Nat.le_of_ble_eq_true rfl) (by decide) (by decide) (fun x23 M22 hf => ?_)
          refine r_if_eq (tgt := 85) h dX10_poles_78 (by decide) (fun c24 => ?_) (fun c24 => ?_)
          · have hf := ite_t c24 hf
            refine r_iconst (v := 0) h dX10_poles_85 (by decide) ?_
            refine r_istore_n (lv' := [(3, .int 0), (0, .ref v0), (1, .int v1), (2, .int v2), (4, .int v4), (5, .int v5)]) h dX10_poles_86 rfl (by decide) rfl ?_
            refine r_iinc (v := v5 + 1) (lv' := [(5, .int (v5 + 1)), (3, .int 0), (0, .ref v0), (1, .int v1), (2, .int v2), (4, .int v4)]) h 5 dX10_poles_87 rfl rfl (by decide) rfl ?_
            refine r_goto (tgt := 58) h dX10_poles_90 (by decide) ?_
            exact V.sub [2, 3, 4, 1, 5, 0] rfl hf
          · have hf := ite_f c24 hf
            refine r_iconst (v := 1) h dX10_poles_81 (by decide) ?_
            refine r_goto (tgt := 86) h dX10_poles_82 (by decide) ?_
            refine r_istore_n (lv' := [(3, .int 1), (0, .ref v0), (1, .int v1), (2, .int v2), (4, .int v4), (5, .int v5)]) h dX10_poles_86 rfl (by decide) rfl ?_
            refine r_iinc (v := v5 + 1) (lv' := [(5, .int (v5 + 1)), (3, .int 1), (0, .ref v0), (1, .int v1), (2, .int v2), (4, .int v4)]) h 5 dX10_poles_87 rfl rfl (by decide) rfl ?_
            refine r_goto (tgt := 58) h dX10_poles_90 (by decide) ?_
            exact V.sub [2, 3, 4, 1, 5, 0] rfl hf)
  refine r_aload_n h 0 dX10_poles_0 rfl rfl ?_
  refine r_iconst (v := 0) h dX10_poles_1 (by decide) ?_
  obtain ⟨k1, hf⟩ := hf
  refine p1597 h dX10_poles_2 k1 ?_
  refine r_goW (fun M2 eM2 => ?_)
  have hf := hf M2 eM2
  refine r_iconst (v := (-1)) h dX10_poles_5 (by decide) ?_
  refine r_istore_n (lv' := [(1, .int (-1)), (0, .ref a0)]) h dX10_poles_6 rfl (by decide) rfl ?_
  refine r_iconst (v := 0) h dX10_poles_7 (by decide) ?_
  refine r_istore_n (lv' := [(2, .int 0), (1, .int (-1)), (0, .ref a0)]) h dX10_poles_8 rfl (by decide) rfl ?_
  exact V.sub [2, 1, 0] rfl hf
theorem c2188 {l : Launch} {G : gG} {X : gX} {cc : ByteArray} {nL F L bc bs pc : Nat} {M : gM} {lv : List (Nat × Value)} {rest : List Value} {a0 : Nat} {K : Int32 → gM → Prop} (hl : l.stackTraces = false) (h : hX l G X cc nL "GlacierMailLaw" F L) (d : decode cc pc = .ok (.invokevirtual 244, 3)) (hk : kd M a0 = some (.inl 10)) (hf : f_X10_poles a0 M K) (hst : (rest.map fun v => v.category).sum ≤ 8) (hF : 3 ≤ F) (hL : 72 ≤ L) (kk : ∀ x M1, K x M1 → V l G X bc bs M1 (pc + 3) lv (.int x :: rest)) : V l G X bc bs M pc lv (.ref a0 :: rest) := r_callV (n := 0) (As := []) h (m_X10_poles hl hf) 10 rfl hk rfl ⟨by decide, by decide, by decide +kernel⟩ d q2188 q2189 q2190 q147 q2191 rfl rfl hst hF hL (Nat.zero_le _) (Nat.zero_le _) (kI_go kk) kN_go
def f_X10_fit (a0 : Nat) (M : gM) (K : Int32 → gM → Prop) : Prop :=
  ∀ P21 : Nat → Int32 → Int32 → gM → Prop,
  ∀ P77 : Nat → Int32 → gM → Prop,
  ∀ P87 : Nat → Int32 → Nat → gM → Prop,
  ∀ P110 : Nat → Int32 → Int32 → gM → Prop,
  ∀ P124 : Nat → Int32 → Int32 → Int32 → gM → Prop,
  (∀ (v0 : Nat) (v1 : Int32) (v2 : Int32) (M : gM), (kd M v0 = some (.inl 10) ∧ if (iv M v0 10) ≤ (v2 + 1) then P77 v0 v1 M else if v1 = 0 then P77 v0 v1 M else ∃ b8, rv M v0 7 = some b8 ∧ inA M b8 1 v2 ∧ f_X10_noLane v0 (iv M b8 (ix v2)) M (fun x12 M11 => if x12 = 0 then kd M11 v0 = some (.inl 10) ∧ ∃ b15, rv M11 v0 7 = some b15 ∧ inA M11 b15 1 (v2 + 1) ∧ f_X10_in (iv M11 b15 (ix (v2 + 1))) 0 20 M11 (fun x19 M18 => if x19 = 0 then P21 v0 0 (v2 + 2) M18 else P21 v0 1 (v2 + 2) M18) else P21 v0 0 (v2 + 2) M11)) → P21 v0 v1 v2 M) →
  (∀ (v0 : Nat) (v1 : Int32) (M : gM), (if v1 = 0 then P87 v0 1 v0 M else P87 v0 0 v0 M) → P77 v0 v1 M) →
  (∀ (v0 : Nat) (s0 : Int32) (s1 : Nat) (M : gM), (kd M s1 = some (.inl 10) ∧ f_X10_throwsIf s1 s0 1 M (fun x24 M23 => if x24 = 0 then kd M23 v0 = some (.inl 10) ∧ ∃ b27, rv M23 v0 1 = some b27 ∧ inA M23 b27 0 6 ∧ P110 v0 (((1 : Int32) <<< ((iv M23 b27 (ix 6)) &&& 31)) - 1) 0 M23 else K 0 M23)) → P87 v0 s0 s1 M) →
  (∀ (v0 : Nat) (v2 : Int32) (v3 : Int32) (M : gM), (kd M v0 = some (.inl 10) ∧ ∃ b31, rv M v0 1 = some b31 ∧ inA M b31 0 6 ∧ if (iv M b31 (ix 6)) ≤ v3 then K v2 M else P124 v0 v2 v3 0 M) → P110 v0 v2 v3 M) →
  (∀ (v0 : Nat) (v2 : Int32) (v3 : Int32) (v4 : Int32) (M : gM), (kd M v0 = some (.inl 10) ∧ if (iv M v0 10) ≤ v4 then P110 v0 v2 (v3 + 1) M else ∃ b37, rv M v0 7 = some b37 ∧ inA M b37 1 v4 ∧ f_X10_ofTable v0 v3 (iv M b37 (ix v4)) M (fun x41 M40 => kd M40 v0 = some (.inl 10) ∧ ∃ b43, rv M40 v0 7 = some b43 ∧ inA M40 b43 1 (v4 + 1) ∧ if x41 = (iv M40 b43 (ix (v4 + 1))) then P124 v0 v2 v3 (v4 + 2) M40 else P124 v0 (v2 &&& (((1 : Int32) <<< (v3 &&& 31)) ^^^ (-1))) v3 (v4 + 2) M40)) → P124 v0 v2 v3 v4 M) →
  kd M a0 = some (.inl 10) ∧ f_X10_uses a0 M (fun M2 => kd M2 a0 = some (.inl 10) ∧ if ((iv M2 a0 10) - (iv M2 a0 10) / 2 * 2) = 0 then P21 a0 1 0 M2 else P21 a0 0 0 M2)
set_option maxHeartbeats 4000000 in
theorem m_X10_fit {l : Launch} (hl : l.stackTraces = false) {G : gG} {a0 : Nat} {M : gM} {K : Int32 → gM → Prop} (hf : f_X10_fit a0 M K) : gMet l G yX10_fit (ws_ yX10_fit cX10_fit 5 (some Jvm.ClassFile.FieldType.int)) ({ frames := 2, cells := 0, slots := 0, locals := 43 }) M [.ref a0] (kI K) kN := by
  refine gm_of hl (ret := (some Jvm.ClassFile.FieldType.int)) rfl (Nat.le_of_ble_eq_true rfl) (fun X h hq => ?_)
  have h : hX l G X cX10_fit 5 "GlacierMailModel" 2 43 := h
  have hf := hf
  show V l G X 0 0 M 0 [(0, .ref a0)] []
  have hf := hf
    (fun v0 v1 v2 M => V l G X 0 0 M 21 [(0, .ref v0), (1, .int v1), (2, .int v2)] [])
    (fun v0 v1 M => V l G X 0 0 M 77 [(0, .ref v0), (1, .int v1)] [])
    (fun v0 s0 s1 M => V l G X 0 0 M 87 [(0, .ref v0)] [.int s0, .ref s1])
    (fun v0 v2 v3 M => V l G X 0 0 M 110 [(0, .ref v0), (2, .int v2), (3, .int v3)] [])
    (fun v0 v2 v3 v4 M => V l G X 0 0 M 124 [(0, .ref v0), (2, .int v2), (3, .int v3), (4, .int v4)] [])
    (by
      intro v0 v1 v2 M hf
      show V l G X 0 0 M 21 [(0, .ref v0), (1, .int v1), (2, .int v2)] []
      refine r_iload_n h 2 dX10_fit_21 rfl rfl ?_
      refine r_iconst (v := 1) h dX10_fit_22 (by decide) ?_
      refine r_iadd h dX10_fit_23 ?_
      refine r_aload_n h 0 dX10_fit_24 rfl rfl ?_
      obtain ⟨k5, hf⟩ := hf
      refine g1607 h dX10_fit_25 k5 ?_
      refine r_icmp_ge (tgt := 77) h dX10_fit_28 (by decide) (fun c6 => ?_) (fun c6 => ?_)
      · have hf := ite_t c6 hf
        exact V.sub [0, 1] rfl hf
      · have hf := ite_f c6 hf
        refine r_iload_n h 1 dX10_fit_31 rfl rfl ?_
        refine r_if_eq (tgt := 77) h dX10_fit_32 (by decide) (fun c7 => ?_) (fun c7 => ?_)
        · have hf := ite_t c7 hf
          exact V.sub [0, 1] rfl hf
        · have hf := ite_f c7 hf
          refine r_aload_n h 0 dX10_fit_35 rfl rfl ?_
          refine r_aload_n h 0 dX10_fit_36 rfl rfl ?_
          obtain ⟨b8, e9, hf⟩ := hf
          refine g1604 h dX10_fit_37 k5 e9 ?_
          refine r_iload_n h 2 dX10_fit_40 rfl rfl ?_
          obtain ⟨j10, hf⟩ := hf
          refine r_baload h dX10_fit_41 j10 ?_
          refine c1951 hl h dX10_fit_42 k5 hf (Nat.le_of_ble_eq_true rfl) (by decide) (by decide) (fun x12 M11 hf => ?_)
          refine r_if_ne (tgt := 69) h dX10_fit_45 (by decide) (fun c13 => ?_) (fun c13 => ?_)
          · have hf := ite_f c13 hf
            refine r_iconst (v := 0) h dX10_fit_69 (by decide) ?_
            refine r_istore_n (lv' := [(1, .int 0), (0, .ref v0), (2, .int v2)]) h dX10_fit_70 rfl (by decide) rfl ?_
            refine r_iinc (v := v2 + 2) (lv' := [(2, .int (v2 + 2)), (1, .int 0), (0, .ref v0)]) h 2 dX10_fit_71 rfl rfl (by decide) rfl ?_
            refine r_goto (tgt := 21) h dX10_fit_74 (by decide) ?_
            exact V.sub [2, 1, 0] rfl hf
          · have hf := ite_t c13 hf
            refine r_aload_n h 0 dX10_fit_48 rfl rfl ?_
            obtain ⟨k14, hf⟩ := hf
            obtain ⟨b15, e16, hf⟩ := hf
            refine g1604 h dX10_fit_49 k14 e16 ?_
            refine r_iload_n h 2 dX10_fit_52 rfl rfl ?_
            refine r_iconst (v := 1) h dX10_fit_53 (by decide) ?_
            refine r_iadd h dX10_fit_54 ?_
            obtain ⟨j17, hf⟩ := hf
            refine r_baload h dX10_fit_55 j17 ?_
            refine r_iconst (v := 0) h dX10_fit_56 (by decide) ?_
            refine r_bipush (v := 20) h dX10_fit_57 (by decide) ?_
            refine c1944 hl h dX10_fit_59 hf (Nat.le_of_ble_eq_true rfl) (by decide) (by decide) (fun x19 M18 hf => ?_)
            refine r_if_eq (tgt := 69) h dX10_fit_62 (by decide) (fun c20 => ?_) (fun c20 => ?_)
            · have hf := ite_t c20 hf
              refine r_iconst (v := 0) h dX10_fit_69 (by decide) ?_
              refine r_istore_n (lv' := [(1, .int 0), (0, .ref v0), (2, .int v2)]) h dX10_fit_70 rfl (by decide) rfl ?_
              refine r_iinc (v := v2 + 2) (lv' := [(2, .int (v2 + 2)), (1, .int 0), (0, .ref v0)]) h 2 dX10_fit_71 rfl rfl (by decide) rfl ?_
              refine r_goto (tgt := 21) h dX10_fit_74 (by decide) ?_
              exact V.sub [2, 1, 0] rfl hf
            · have hf := ite_f c20 hf
              refine r_iconst (v := 1) h dX10_fit_65 (by decide) ?_
              refine r_goto (tgt := 70) h dX10_fit_66 (by decide) ?_
              refine r_istore_n (lv' := [(1, .int 1), (0, .ref v0), (2, .int v2)]) h dX10_fit_70 rfl (by decide) rfl ?_
              refine r_iinc (v := v2 + 2) (lv' := [(2, .int (v2 + 2)), (1, .int 1), (0, .ref v0)]) h 2 dX10_fit_71 rfl rfl (by decide) rfl ?_
              refine r_goto (tgt := 21) h dX10_fit_74 (by decide) ?_
              exact V.sub [2, 1, 0] rfl hf)
    (by
      intro v0 v1 M hf
      show V l G X 0 0 M 77 [(0, .ref v0), (1, .int v1)] []
      refine r_aload_n h 0 dX10_fit_77 rfl rfl ?_
      refine r_iload_n h 1 dX10_fit_78 rfl rfl ?_
      refine r_if_ne (tgt := 86) h dX10_fit_79 (by decide) (fun c21 => ?_) (fun c21 => ?_)
      · have hf := ite_f c21 hf
        refine r_iconst (v := 0) h dX10_fit_86 (by decide) ?_
        exact V.sub [0] rfl hf
      · have hf := ite_t c21 hf
        refine r_iconst (v := 1) h dX10_fit_82 (by decide) ?_
        refine r_goto (tgt := 87) h dX10_fit_83 (by decide) ?_
        exact V.sub [0] rfl hf)
    (by
      intro v0 s0 s1 M hf
      show V l G X 0 0 M 87 [(0, .ref v0)] [.int s0, .ref s1]
      refine r_iconst (v := 1) h dX10_fit_87 (by decide) ?_
      obtain ⟨k22, hf⟩ := hf
      refine c1929 hl h dX10_fit_88 k22 hf (Nat.le_of_ble_eq_true rfl) (by decide) (by decide) (fun x24 M23 hf => ?_)
      refine r_if_eq (tgt := 96) h dX10_fit_91 (by decide) (fun c25 => ?_) (fun c25 => ?_)
      · have hf := ite_t c25 hf
        refine r_iconst (v := 1) h dX10_fit_96 (by decide) ?_
        refine r_aload_n h 0 dX10_fit_97 rfl rfl ?_
        obtain ⟨k26, hf⟩ := hf
        obtain ⟨b27, e28, hf⟩ := hf
        refine g1598 h dX10_fit_98 k26 e28 ?_
        refine r_bipush (v := 6) h dX10_fit_101 (by decide) ?_
        obtain ⟨j29, hf⟩ := hf
        refine r_iaload h dX10_fit_103 j29 ?_
        refine r_ishl h dX10_fit_104 ?_
        refine r_iconst (v := 1) h dX10_fit_105 (by decide) ?_
        refine r_isub h dX10_fit_106 ?_
        refine r_istore_n (lv' := [(2, .int (((1 : Int32) <<< ((iv M23 b27 (ix 6)) &&& 31)) - 1)), (0, .ref v0)]) h dX10_fit_107 rfl (by decide) rfl ?_
        refine r_iconst (v := 0) h dX10_fit_108 (by decide) ?_
        refine r_istore_n (lv' := [(3, .int 0), (2, .int (((1 : Int32) <<< ((iv M23 b27 (ix 6)) &&& 31)) - 1)), (0, .ref v0)]) h dX10_fit_109 rfl (by decide) rfl ?_
        exact V.sub [2, 1, 0] rfl hf
      · have hf := ite_f c25 hf
        refine r_iconst (v := 0) h dX10_fit_94 (by decide) ?_
        exact r_ireturn h hq dX10_fit_95 ⟨_, rfl, hf⟩)
    (by
      intro v0 v2 v3 M hf
      show V l G X 0 0 M 110 [(0, .ref v0), (2, .int v2), (3, .int v3)] []
      refine r_iload_n h 2 dX10_fit_110 rfl rfl ?_
      refine r_aload_n h 0 dX10_fit_111 rfl rfl ?_
      obtain ⟨k30, hf⟩ := hf
      obtain ⟨b31, e32, hf⟩ := hf
      refine g1598 h dX10_fit_112 k30 e32 ?_
      refine r_bipush (v := 6) h dX10_fit_115 (by decide) ?_
      obtain ⟨j33, hf⟩ := hf
      refine r_iaload h dX10_fit_117 j33 ?_
      refine r_icmp_ge (tgt := 177) h dX10_fit_118 (by decide) (fun c34 => ?_) (fun c34 => ?_)
      · have hf := ite_t c34 hf
        refine r_iload_n h 1 dX10_fit_177 rfl rfl ?_
        exact r_ireturn h hq dX10_fit_178 ⟨_, rfl, hf⟩
      · have hf := ite_f c34 hf
        refine r_iconst (v := 0) h dX10_fit_121 (by decide) ?_
        refine r_istore (lv' := [(4, .int 0), (0, .ref v0), (2, .int v2), (3, .int v3)]) h dX10_fit_122 (by decide) rfl ?_
        exact V.sub [1, 2, 3, 0] rfl hf)
    (by
      intro v0 v2 v3 v4 M hf
      show V l G X 0 0 M 124 [(0, .ref v0), (2, .int v2), (3, .int v3), (4, .int v4)] []
      refine r_iload h 3 dX10_fit_124 rfl ?_
      refine r_aload_n h 0 dX10_fit_126 rfl rfl ?_
      obtain ⟨k35, hf⟩ := hf
      refine g1607 h dX10_fit_127 k35 ?_
      refine r_icmp_ge (tgt := 171) h dX10_fit_130 (by decide) (fun c36 => ?_) (fun c36 => ?_)
      · have hf := ite_t c36 hf
        refine r_iinc (v := v3 + 1) (lv' := [(3, .int (v3 + 1)), (0, .ref v0), (2, .int v2), (4, .int v4)]) h 2 dX10_fit_171 rfl rfl (by decide) rfl ?_
        refine r_goto (tgt := 110) h dX10_fit_174 (by decide) ?_
        exact V.sub [1, 2, 0] rfl hf
      · have hf := ite_f c36 hf
        refine r_aload_n h 0 dX10_fit_133 rfl rfl ?_
        refine r_iload_n h 2 dX10_fit_134 rfl rfl ?_
        refine r_aload_n h 0 dX10_fit_135 rfl rfl ?_
        obtain ⟨b37, e38, hf⟩ := hf
        refine g1604 h dX10_fit_136 k35 e38 ?_
        refine r_iload h 3 dX10_fit_139 rfl ?_
        obtain ⟨j39, hf⟩ := hf
        refine r_baload h dX10_fit_141 j39 ?_
        refine c2173 hl h dX10_fit_142 k35 hf (Nat.le_of_ble_eq_true rfl) (by decide) (by decide) (fun x41 M40 hf => ?_)
        refine r_aload_n h 0 dX10_fit_145 rfl rfl ?_
        obtain ⟨k42, hf⟩ := hf
        obtain ⟨b43, e44, hf⟩ := hf
        refine g1604 h dX10_fit_146 k42 e44 ?_
        refine r_iload h 3 dX10_fit_149 rfl ?_
        refine r_iconst (v := 1) h dX10_fit_151 (by decide) ?_
        refine r_iadd h dX10_fit_152 ?_
        obtain ⟨j45, hf⟩ := hf
        refine r_baload h dX10_fit_153 j45 ?_
        refine r_icmp_eq (tgt := 165) h dX10_fit_154 (by decide) (fun c46 => ?_) (fun c46 => ?_)
        · have hf := ite_t c46 hf
          refine r_iinc (v := v4 + 2) (lv' := [(4, .int (v4 + 2)), (0, .ref v0), (2, .int v2), (3, .int v3)]) h 3 dX10_fit_165 rfl rfl (by decide) rfl ?_
          refine r_goto (tgt := 124) h dX10_fit_168 (by decide) ?_
          exact V.sub [1, 2, 3, 0] rfl hf
        · have hf := ite_f c46 hf
          refine r_iload_n h 1 dX10_fit_157 rfl rfl ?_
          refine r_iconst (v := 1) h dX10_fit_158 (by decide) ?_
          refine r_iload_n h 2 dX10_fit_159 rfl rfl ?_
          refine r_ishl h dX10_fit_160 ?_
          refine r_iconst (v := (-1)) h dX10_fit_161 (by decide) ?_
          refine r_ixor h dX10_fit_162 ?_
          refine r_iand h dX10_fit_163 ?_
          refine r_istore_n (lv' := [(2, .int (v2 &&& (((1 : Int32) <<< (v3 &&& 31)) ^^^ (-1)))), (0, .ref v0), (3, .int v3), (4, .int v4)]) h dX10_fit_164 rfl (by decide) rfl ?_
          refine r_iinc (v := v4 + 2) (lv' := [(4, .int (v4 + 2)), (2, .int (v2 &&& (((1 : Int32) <<< (v3 &&& 31)) ^^^ (-1)))), (0, .ref v0), (3, .int v3)]) h 3 dX10_fit_165 rfl rfl (by decide) rfl ?_
          refine r_goto (tgt := 124) h dX10_fit_168 (by decide) ?_
          exact V.sub [2, 1, 3, 0] rfl hf)
  refine r_aload_n h 0 dX10_fit_0 rfl rfl ?_
  obtain ⟨k1, hf⟩ := hf
  refine c1747 hl h dX10_fit_1 k1 hf (Nat.le_of_ble_eq_true rfl) (by decide) (by decide) (fun M2 hf => ?_)
  refine r_aload_n h 0 dX10_fit_4 rfl rfl ?_
  obtain ⟨k3, hf⟩ := hf
  refine g1607 h dX10_fit_5 k3 ?_
  refine r_iconst (v := 2) h dX10_fit_8 (by decide) ?_
  refine r_irem h dX10_fit_9 (by decide) ?_
  refine r_if_ne (tgt := 17) h dX10_fit_10 (by decide) (fun c4 => ?_) (fun c4 => ?_)
  · have hf := ite_f c4 hf
    refine r_iconst (v := 0) h dX10_fit_17 (by decide) ?_
    refine r_istore_n (lv' := [(1, .int 0), (0, .ref a0)]) h dX10_fit_18 rfl (by decide) rfl ?_
    refine r_iconst (v := 0) h dX10_fit_19 (by decide) ?_
    refine r_istore_n (lv' := [(2, .int 0), (1, .int 0), (0, .ref a0)]) h dX10_fit_20 rfl (by decide) rfl ?_
    exact V.sub [2, 1, 0] rfl hf
  · have hf := ite_t c4 hf
    refine r_iconst (v := 1) h dX10_fit_13 (by decide) ?_
    refine r_goto (tgt := 18) h dX10_fit_14 (by decide) ?_
    refine r_istore_n (lv' := [(1, .int 1), (0, .ref a0)]) h dX10_fit_18 rfl (by decide) rfl ?_
    refine r_iconst (v := 0) h dX10_fit_19 (by decide) ?_
    refine r_istore_n (lv' := [(2, .int 0), (1, .int 1), (0, .ref a0)]) h dX10_fit_20 rfl (by decide) rfl ?_
    exact V.sub [2, 1, 0] rfl hf
theorem c2193 {l : Launch} {G : gG} {X : gX} {cc : ByteArray} {nL F L bc bs pc : Nat} {M : gM} {lv : List (Nat × Value)} {rest : List Value} {a0 : Nat} {K : Int32 → gM → Prop} (hl : l.stackTraces = false) (h : hX l G X cc nL "GlacierMailLaw" F L) (d : decode cc pc = .ok (.invokevirtual 247, 3)) (hk : kd M a0 = some (.inl 10)) (hf : f_X10_fit a0 M K) (hst : (rest.map fun v => v.category).sum ≤ 8) (hF : 3 ≤ F) (hL : 67 ≤ L) (kk : ∀ x M1, K x M1 → V l G X bc bs M1 (pc + 3) lv (.int x :: rest)) : V l G X bc bs M pc lv (.ref a0 :: rest) := r_callV (n := 0) (As := []) h (m_X10_fit hl hf) 10 rfl hk rfl ⟨by decide, by decide, by decide +kernel⟩ d q2193 q2194 q2195 q147 q2196 rfl rfl hst hF hL (Nat.zero_le _) (Nat.zero_le _) (kI_go kk) kN_go
def f_X10_at (a0 : Int32) (a1 : Int32) (M : gM) (K : Int32 → gM → Prop) : Prop :=
  K (((301 : Int32) * a0) + a1) M
set_option maxHeartbeats 4000000 in
theorem m_X10_at {l : Launch} (hl : l.stackTraces = false) {G : gG} {a0 : Int32} {a1 : Int32} {M : gM} {K : Int32 → gM → Prop} (hf : f_X10_at a0 a1 M K) : gMet l G yX10_at (ws_ yX10_at cX10_at 2 (some Jvm.ClassFile.FieldType.int)) ({ frames := 0, cells := 0, slots := 0, locals := 0 }) M [.int a0, .int a1] (kI K) kN := by
  refine gm_of hl (ret := (some Jvm.ClassFile.FieldType.int)) rfl (Nat.le_of_ble_eq_true rfl) (fun X h hq => ?_)
  have h : hX l G X cX10_at 2 "GlacierMailModel" 0 0 := h
  have hf := hf
  show V l G X 0 0 M 0 [(0, .int a0), (1, .int a1)] []
  unfold f_X10_at at hf
  refine r_sipush (v := 301) h dX10_at_0 (by decide) ?_
  refine r_iload_n h 0 dX10_at_3 rfl rfl ?_
  refine r_imul h dX10_at_4 ?_
  refine r_iload_n h 1 dX10_at_5 rfl rfl ?_
  refine r_iadd h dX10_at_6 ?_
  exact r_ireturn h hq dX10_at_7 ⟨_, rfl, hf⟩
theorem c2205 {l : Launch} {G : gG} {X : gX} {cc : ByteArray} {nL F L bc bs pc : Nat} {M : gM} {lv : List (Nat × Value)} {rest : List Value} {a0 : Int32} {a1 : Int32} {K : Int32 → gM → Prop} (hl : l.stackTraces = false) (h : hX l G X cc nL "GlacierMailModel" F L) (d : decode cc pc = .ok (.invokestatic 465, 3)) (hf : f_X10_at a0 a1 M K) (hst : (rest.map fun v => v.category).sum ≤ 8) (hF : 1 ≤ F) (hL : 21 ≤ L) (kk : ∀ x M1, K x M1 → V l G X bc bs M1 (pc + 3) lv (.int x :: rest)) : V l G X bc bs M pc lv (.int a1 :: .int a0 :: rest) := r_callS (n := 2) (As := [.int a0, .int a1]) h (m_X10_at hl hf) ⟨by decide, by decide, by decide +kernel⟩ d q2205 q2206 q147 q2207 rfl rfl hst hF hL (Nat.zero_le _) (Nat.zero_le _) (kI_go kk) kN_go
def f_X10_isWatching (a0 : Nat) (a1 : Int32) (a2 : Int32) (M : gM) (K : Int32 → gM → Prop) : Prop :=
  kd M a0 = some (.inl 10) ∧ f_X10_of a0 a1 2 M (fun x3 M2 => kd M2 a0 = some (.inl 10) ∧ f_X10_of a0 a2 0 M2 (fun x6 M5 => if x3 = x6 then K 1 M5 else K 0 M5))
set_option maxHeartbeats 4000000 in
theorem m_X10_isWatching {l : Launch} (hl : l.stackTraces = false) {G : gG} {a0 : Nat} {a1 : Int32} {a2 : Int32} {M : gM} {K : Int32 → gM → Prop} (hf : f_X10_isWatching a0 a1 a2 M K) : gMet l G yX10_isWatching (ws_ yX10_isWatching cX10_isWatching 3 (some Jvm.ClassFile.FieldType.boolean)) ({ frames := 1, cells := 0, slots := 0, locals := 22 }) M [.ref a0, .int a1, .int a2] (kI K) kN := by
  refine gm_of hl (ret := (some Jvm.ClassFile.FieldType.boolean)) rfl (Nat.le_of_ble_eq_true rfl) (fun X h hq => ?_)
  have h : hX l G X cX10_isWatching 3 "GlacierMailModel" 1 22 := h
  have hf := hf
  show V l G X 0 0 M 0 [(0, .ref a0), (1, .int a1), (2, .int a2)] []
  unfold f_X10_isWatching at hf
  refine r_aload_n h 0 dX10_isWatching_0 rfl rfl ?_
  refine r_iload_n h 1 dX10_isWatching_1 rfl rfl ?_
  refine r_iconst (v := 2) h dX10_isWatching_2 (by decide) ?_
  obtain ⟨k1, hf⟩ := hf
  refine c1997 hl h dX10_isWatching_3 k1 hf (Nat.le_of_ble_eq_true rfl) (by decide) (by decide) (fun x3 M2 hf => ?_)
  refine r_aload_n h 0 dX10_isWatching_6 rfl rfl ?_
  refine r_iload_n h 2 dX10_isWatching_7 rfl rfl ?_
  refine r_iconst (v := 0) h dX10_isWatching_8 (by decide) ?_
  obtain ⟨k4, hf⟩ := hf
  refine c1997 hl h dX10_isWatching_9 k4 hf (Nat.le_of_ble_eq_true rfl) (by decide) (by decide) (fun x6 M5 hf => ?_)
  refine r_icmp_ne (tgt := 19) h dX10_isWatching_12 (by decide) (fun c7 => ?_) (fun c7 => ?_)
  · have hf := ite_f c7 hf
    refine r_iconst (v := 0) h dX10_isWatching_19 (by decide) ?_
    exact r_zreturn h hq dX10_isWatching_20 (by decide) ⟨_, rfl, hf⟩
  · have hf := ite_t c7 hf
    refine r_iconst (v := 1) h dX10_isWatching_15 (by decide) ?_
    refine r_goto (tgt := 20) h dX10_isWatching_16 (by decide) ?_
    exact r_zreturn h hq dX10_isWatching_20 (by decide) ⟨_, rfl, hf⟩
theorem c2208 {l : Launch} {G : gG} {X : gX} {cc : ByteArray} {nL F L bc bs pc : Nat} {M : gM} {lv : List (Nat × Value)} {rest : List Value} {a0 : Nat} {a1 : Int32} {a2 : Int32} {K : Int32 → gM → Prop} (hl : l.stackTraces = false) (h : hX l G X cc nL "GlacierMailModel" F L) (d : decode cc pc = .ok (.invokevirtual 468, 3)) (hk : kd M a0 = some (.inl 10)) (hf : f_X10_isWatching a0 a1 a2 M K) (hst : (rest.map fun v => v.category).sum ≤ 8) (hF : 2 ≤ F) (hL : 44 ≤ L) (kk : ∀ x M1, K x M1 → V l G X bc bs M1 (pc + 3) lv (.int x :: rest)) : V l G X bc bs M pc lv (.int a2 :: .int a1 :: .ref a0 :: rest) := r_callV (n := 2) (As := [.int a1, .int a2]) h (m_X10_isWatching hl hf) 10 rfl hk rfl ⟨by decide, by decide, by decide +kernel⟩ d q2208 q2210 qs130 q147 q2211 rfl rfl hst hF hL (Nat.zero_le _) (Nat.zero_le _) (kI_go kk) kN_go
