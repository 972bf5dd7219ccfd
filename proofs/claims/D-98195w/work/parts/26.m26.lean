def f_X10_throwsIf (a0 : Nat) (a1 : Int32) (a2 : Int32) (M : gM) (K : Int32 → gM → Prop) : Prop :=
  if a1 = 0 then (a1 = 0 ∨ a1 = 1) ∧ K a1 M else kd M a0 = some (.inl 10) ∧ ∀ M3, M3 = sI M a0 0 a2 → (a1 = 0 ∨ a1 = 1) ∧ K a1 M3
set_option maxHeartbeats 4000000 in
theorem m_X10_throwsIf {l : Launch} (hl : l.stackTraces = false) {G : gG} {a0 : Nat} {a1 : Int32} {a2 : Int32} {M : gM} {K : Int32 → gM → Prop} (hf : f_X10_throwsIf a0 a1 a2 M K) : gMet l G yX10_throwsIf (ws_ yX10_throwsIf cX10_throwsIf 3 (some Jvm.ClassFile.FieldType.boolean)) ({ frames := 0, cells := 0, slots := 0, locals := 0 }) M [.ref a0, .int a1, .int a2] (kI K) kN := by
  refine gm_of hl (ret := (some Jvm.ClassFile.FieldType.boolean)) rfl (Nat.le_of_ble_eq_true rfl) (fun X h hq => ?_)
  have h : hX l G X cX10_throwsIf 3 "GlacierMailModel" 0 0 := h
  have hf := hf
  show V l G X 0 0 M 0 [(0, .ref a0), (1, .int a1), (2, .int a2)] []
  unfold f_X10_throwsIf at hf
  refine r_iload_n h 1 dX10_throwsIf_0 rfl rfl ?_
  refine r_if_eq (tgt := 9) h dX10_throwsIf_1 (by decide) (fun c1 => ?_) (fun c1 => ?_)
  · have hf := ite_t c1 hf
    refine r_iload_n h 1 dX10_throwsIf_9 rfl rfl ?_
    exact r_zreturn h hq dX10_throwsIf_10 hf.1 ⟨_, rfl, hf.2⟩
  · have hf := ite_f c1 hf
    refine r_aload_n h 0 dX10_throwsIf_4 rfl rfl ?_
    refine r_iload_n h 2 dX10_throwsIf_5 rfl rfl ?_
    obtain ⟨k2, hf⟩ := hf
    refine p1597 h dX10_throwsIf_6 k2 ?_
    refine r_goW (fun M3 eM3 => ?_)
    have hf := hf M3 eM3
    refine r_iload_n h 1 dX10_throwsIf_9 rfl rfl ?_
    exact r_zreturn h hq dX10_throwsIf_10 hf.1 ⟨_, rfl, hf.2⟩
theorem c1929 {l : Launch} {G : gG} {X : gX} {cc : ByteArray} {nL F L bc bs pc : Nat} {M : gM} {lv : List (Nat × Value)} {rest : List Value} {a0 : Nat} {a1 : Int32} {a2 : Int32} {K : Int32 → gM → Prop} (hl : l.stackTraces = false) (h : hX l G X cc nL "GlacierMailModel" F L) (d : decode cc pc = .ok (.invokevirtual 300, 3)) (hk : kd M a0 = some (.inl 10)) (hf : f_X10_throwsIf a0 a1 a2 M K) (hst : (rest.map fun v => v.category).sum ≤ 8) (hF : 1 ≤ F) (hL : 22 ≤ L) (kk : ∀ x M1, K x M1 → V l G X bc bs M1 (pc + 3) lv (.int x :: rest)) : V l G X bc bs M pc lv (.int a2 :: .int a1 :: .ref a0 :: rest) := r_callV (n := 2) (As := [.int a1, .int a2]) h (m_X10_throwsIf hl hf) 10 rfl hk rfl ⟨by decide, by decide, by decide +kernel⟩ d q1929 q1931 qs91 q147 q1932 rfl rfl hst hF hL (Nat.zero_le _) (Nat.zero_le _) (kI_go kk) kN_go
def f_X10_valley (a0 : Nat) (M : gM) (K : Int32 → gM → Prop) : Prop :=
  ∀ P2 : Nat → Int32 → gM → Prop,
  ∀ P46 : Nat → Int32 → Int32 → Nat → gM → Prop,
  ∀ P59 : Nat → Int32 → Nat → gM → Prop,
  ∀ P84 : Nat → Int32 → Nat → gM → Prop,
  ∀ P93 : Nat → Int32 → gM → Prop,
  (∀ (v0 : Nat) (v1 : Int32) (M : gM), (if 1244 ≤ v1 then kd M v0 = some (.inl 10) ∧ f_X10_readAll v0 1 M (fun x4 M3 => if 0 ≤ x4 then P46 v0 x4 (-1) v0 M3 else kd M3 v0 = some (.inl 10) ∧ P46 v0 x4 (iv M3 v0 11) v0 M3) else kd M v0 = some (.inl 10) ∧ ∃ b8, rv M v0 3 = some b8 ∧ ∃ b10, rv M v0 1 = some b10 ∧ inA M b10 0 v1 ∧ inA M b8 0 v1 ∧ ∀ M14, M14 = sI M b8 (ix v1) (iv M b10 (ix v1)) → P2 v0 (v1 + 1) M14) → P2 v0 v1 M) →
  (∀ (v0 : Nat) (v1 : Int32) (s0 : Int32) (s1 : Nat) (M : gM), (kd M s1 = some (.inl 10) ∧ ∀ M16, M16 = sI M s1 13 s0 → if 0 ≤ v1 then P59 v0 0 v0 M16 else P59 v0 1 v0 M16) → P46 v0 v1 s0 s1 M) →
  (∀ (v0 : Nat) (s0 : Int32) (s1 : Nat) (M : gM), (kd M s1 = some (.inl 10) ∧ f_X10_throwsIf s1 s0 1 M (fun x20 M19 => if x20 = 0 then kd M19 v0 = some (.inl 10) ∧ ∃ b23, rv M19 v0 1 = some b23 ∧ inA M19 b23 0 7 ∧ if (iv M19 b23 (ix 7)) = 12 then P84 v0 1 v0 M19 else P84 v0 0 v0 M19 else P93 v0 0 M19)) → P59 v0 s0 s1 M) →
  (∀ (v0 : Nat) (s0 : Int32) (s1 : Nat) (M : gM), (kd M s1 = some (.inl 10) ∧ f_X10_throwsIf s1 s0 2 M (fun x29 M28 => if x29 = 0 then kd M28 v0 = some (.inl 10) ∧ ∃ b32, rv M28 v0 1 = some b32 ∧ inA M28 b32 0 7 ∧ inA M28 b32 0 7 ∧ ∀ M36, M36 = sI M28 b32 (ix 7) ((iv M28 b32 (ix 7)) + 1) → kd M36 v0 = some (.inl 10) ∧ ∀ M38, M38 = sI M36 v0 6 0 → kd M38 v0 = some (.inl 10) ∧ f_X10_warms v0 M38 (fun M40 => kd M40 v0 = some (.inl 10) ∧ ∃ b42, rv M40 v0 1 = some b42 ∧ inA M40 b42 0 7 ∧ K (iv M40 b42 (ix 7)) M40) else P93 v0 0 M28)) → P84 v0 s0 s1 M) →
  (∀ (v0 : Nat) (v2 : Int32) (M : gM), (if 1244 ≤ v2 then K 0 M else kd M v0 = some (.inl 10) ∧ ∃ b47, rv M v0 1 = some b47 ∧ ∃ b49, rv M v0 3 = some b49 ∧ inA M b49 0 v2 ∧ inA M b47 0 v2 ∧ ∀ M53, M53 = sI M b47 (ix v2) (iv M b49 (ix v2)) → P93 v0 (v2 + 1) M53) → P93 v0 v2 M) →
  P2 a0 0 M
set_option maxHeartbeats 4000000 in
theorem m_X10_valley {l : Launch} (hl : l.stackTraces = false) {G : gG} {a0 : Nat} {M : gM} {K : Int32 → gM → Prop} (hf : f_X10_valley a0 M K) : gMet l G yX10_valley (ws_ yX10_valley cX10_valley 3 (some Jvm.ClassFile.FieldType.int)) ({ frames := 33, cells := 0, slots := 0, locals := 719 }) M [.ref a0] (kI K) kN := by
  refine gm_of hl (ret := (some Jvm.ClassFile.FieldType.int)) rfl (Nat.le_of_ble_eq_true rfl) (fun X h hq => ?_)
  have h : hX l G X cX10_valley 3 "GlacierMailModel" 33 719 := h
  have hf := hf
  show V l G X 0 0 M 0 [(0, .ref a0)] []
  have hf := hf
    (fun v0 v1 M => V l G X 0 0 M 2 [(0, .ref v0), (1, .int v1)] [])
    (fun v0 v1 s0 s1 M => V l G X 0 0 M 46 [(0, .ref v0), (1, .int v1)] [.int s0, .ref s1])
    (fun v0 s0 s1 M => V l G X 0 0 M 59 [(0, .ref v0)] [.int s0, .ref s1])
    (fun v0 s0 s1 M => V l G X 0 0 M 84 [(0, .ref v0)] [.int s0, .ref s1])
    (fun v0 v2 M => V l G X 0 0 M 93 [(0, .ref v0), (2, .int v2)] [])
    (by
      intro v0 v1 M hf
      show V l G X 0 0 M 2 [(0, .ref v0), (1, .int v1)] []
      refine r_iload_n h 1 dX10_valley_2 rfl rfl ?_
      refine r_sipush (v := 1244) h dX10_valley_3 (by decide) ?_
      refine r_icmp_ge (tgt := 27) h dX10_valley_6 (by decide) (fun c1 => ?_) (fun c1 => ?_)
      · have hf := ite_t c1 hf
        refine r_aload_n h 0 dX10_valley_27 rfl rfl ?_
        refine r_iconst (v := 1) h dX10_valley_28 (by decide) ?_
        obtain ⟨k2, hf⟩ := hf
        refine c1743 hl h dX10_valley_29 k2 hf (Nat.le_of_ble_eq_true rfl) (by decide) (by decide) (fun x4 M3 hf => ?_)
        refine r_istore_n (lv' := [(1, .int x4), (0, .ref v0)]) h dX10_valley_32 rfl (by decide) rfl ?_
        refine r_aload_n h 1 dX10_valley_33 rfl rfl ?_
        refine r_iload_n h 0 dX10_valley_34 rfl rfl ?_
        refine r_if_ge (tgt := 45) h dX10_valley_35 (by decide) (fun c5 => ?_) (fun c5 => ?_)
        · have hf := ite_t c5 hf
          refine r_iconst (v := (-1)) h dX10_valley_45 (by decide) ?_
          exact V.sub [1, 0] rfl hf
        · have hf := ite_f c5 hf
          refine r_aload_n h 1 dX10_valley_38 rfl rfl ?_
          obtain ⟨k6, hf⟩ := hf
          refine g1608 h dX10_valley_39 k6 ?_
          refine r_goto (tgt := 46) h dX10_valley_42 (by decide) ?_
          exact V.sub [1, 0] rfl hf
      · have hf := ite_f c1 hf
        refine r_aload_n h 0 dX10_valley_9 rfl rfl ?_
        obtain ⟨k7, hf⟩ := hf
        obtain ⟨b8, e9, hf⟩ := hf
        refine g1600 h dX10_valley_10 k7 e9 ?_
        refine r_iload_n h 1 dX10_valley_13 rfl rfl ?_
        refine r_aload_n h 0 dX10_valley_14 rfl rfl ?_
        obtain ⟨b10, e11, hf⟩ := hf
        refine g1598 h dX10_valley_15 k7 e11 ?_
        refine r_iload_n h 1 dX10_valley_18 rfl rfl ?_
        obtain ⟨j12, hf⟩ := hf
        refine r_iaload h dX10_valley_19 j12 ?_
        obtain ⟨j13, hf⟩ := hf
        refine r_iastore h dX10_valley_20 j13 ?_
        refine r_goW (fun M14 eM14 => ?_)
        have hf := hf M14 eM14
        refine r_iinc (v := v1 + 1) (lv' := [(1, .int (v1 + 1)), (0, .ref v0)]) h 1 dX10_valley_21 rfl rfl (by decide) rfl ?_
        refine r_goto (tgt := 2) h dX10_valley_24 (by decide) ?_
        exact V.sub [1, 0] rfl hf)
    (by
      intro v0 v1 s0 s1 M hf
      show V l G X 0 0 M 46 [(0, .ref v0), (1, .int v1)] [.int s0, .ref s1]
      obtain ⟨k15, hf⟩ := hf
      refine p1610 h dX10_valley_46 k15 ?_
      refine r_goW (fun M16 eM16 => ?_)
      have hf := hf M16 eM16
      refine r_aload_n h 0 dX10_valley_49 rfl rfl ?_
      refine r_iload_n h 1 dX10_valley_50 rfl rfl ?_
      refine r_if_ge (tgt := 58) h dX10_valley_51 (by decide) (fun c17 => ?_) (fun c17 => ?_)
      · have hf := ite_t c17 hf
        refine r_iconst (v := 0) h dX10_valley_58 (by decide) ?_
        exact V.sub [0] rfl hf
      · have hf := ite_f c17 hf
        refine r_iconst (v := 1) h dX10_valley_54 (by decide) ?_
        refine r_goto (tgt := 59) h dX10_valley_55 (by decide) ?_
        exact V.sub [0] rfl hf)
    (by
      intro v0 s0 s1 M hf
      show V l G X 0 0 M 59 [(0, .ref v0)] [.int s0, .ref s1]
      refine r_iconst (v := 1) h dX10_valley_59 (by decide) ?_
      obtain ⟨k18, hf⟩ := hf
      refine c1929 hl h dX10_valley_60 k18 hf (Nat.le_of_ble_eq_true rfl) (by decide) (by decide) (fun x20 M19 hf => ?_)
      refine r_if_ne (tgt := 91) h dX10_valley_63 (by decide) (fun c21 => ?_) (fun c21 => ?_)
      · have hf := ite_f c21 hf
        refine r_iconst (v := 0) h dX10_valley_91 (by decide) ?_
        refine r_istore_n (lv' := [(2, .int 0), (0, .ref v0)]) h dX10_valley_92 rfl (by decide) rfl ?_
        exact V.sub [1, 0] rfl hf
      · have hf := ite_t c21 hf
        refine r_aload_n h 0 dX10_valley_66 rfl rfl ?_
        refine r_aload_n h 0 dX10_valley_67 rfl rfl ?_
        obtain ⟨k22, hf⟩ := hf
        obtain ⟨b23, e24, hf⟩ := hf
        refine g1598 h dX10_valley_68 k22 e24 ?_
        refine r_bipush (v := 7) h dX10_valley_71 (by decide) ?_
        obtain ⟨j25, hf⟩ := hf
        refine r_iaload h dX10_valley_73 j25 ?_
        refine r_bipush (v := 12) h dX10_valley_74 (by decide) ?_
        refine r_icmp_ne (tgt := 83) h dX10_valley_76 (by decide) (fun c26 => ?_) (fun c26 => ?_)
        · have hf := ite_f c26 hf
          refine r_iconst (v := 0) h dX10_valley_83 (by decide) ?_
          exact V.sub [0] rfl hf
        · have hf := ite_t c26 hf
          refine r_iconst (v := 1) h dX10_valley_79 (by decide) ?_
          refine r_goto (tgt := 84) h dX10_valley_80 (by decide) ?_
          exact V.sub [0] rfl hf)
    (by
      intro v0 s0 s1 M hf
      show V l G X 0 0 M 84 [(0, .ref v0)] [.int s0, .ref s1]
      refine r_iconst (v := 2) h dX10_valley_84 (by decide) ?_
      obtain ⟨k27, hf⟩ := hf
      refine c1929 hl h dX10_valley_85 k27 hf (Nat.le_of_ble_eq_true rfl) (by decide) (by decide) (fun x29 M28 hf => ?_)
      refine r_if_eq (tgt := 120) h dX10_valley_88 (by decide) (fun c30 => ?_) (fun c30 => ?_)
      · have hf := ite_t c30 hf
        refine r_aload_n h 0 dX10_valley_120 rfl rfl ?_
        obtain ⟨k31, hf⟩ := hf
        obtain ⟨b32, e33, hf⟩ := hf
        refine g1598 h dX10_valley_121 k31 e33 ?_
        refine r_bipush (v := 7) h dX10_valley_124 (by decide) ?_
        refine r_dup2 h dX10_valley_126 rfl rfl ?_
        obtain ⟨j34, hf⟩ := hf
        refine r_iaload h dX10_valley_127 j34 ?_
        refine r_iconst (v := 1) h dX10_valley_128 (by decide) ?_
        refine r_iadd h dX10_valley_129 ?_
        obtain ⟨j35, hf⟩ := hf
        refine r_iastore h dX10_valley_130 j35 ?_
        refine r_goW (fun M36 eM36 => ?_)
        have hf := hf M36 eM36
        refine r_aload_n h 0 dX10_valley_131 rfl rfl ?_
        refine r_iconst (v := 0) h dX10_valley_132 (by decide) ?_
        obtain ⟨k37, hf⟩ := hf
        refine p1603 h dX10_valley_133 k37 ?_
        refine r_goW (fun M38 eM38 => ?_)
        have hf := hf M38 eM38
        refine r_aload_n h 0 dX10_valley_136 rfl rfl ?_
        obtain ⟨k39, hf⟩ := hf
        refine c1592 hl h dX10_valley_137 k39 hf (Nat.le_of_ble_eq_true rfl) (by decide) (by decide) (fun M40 hf => ?_)
        refine r_aload_n h 0 dX10_valley_140 rfl rfl ?_
        obtain ⟨k41, hf⟩ := hf
        obtain ⟨b42, e43, hf⟩ := hf
        refine g1598 h dX10_valley_141 k41 e43 ?_
        refine r_bipush (v := 7) h dX10_valley_144 (by decide) ?_
        obtain ⟨j44, hf⟩ := hf
        refine r_iaload h dX10_valley_146 j44 ?_
        exact r_ireturn h hq dX10_valley_147 ⟨_, rfl, hf⟩
      · have hf := ite_f c30 hf
        refine r_iconst (v := 0) h dX10_valley_91 (by decide) ?_
        refine r_istore_n (lv' := [(2, .int 0), (0, .ref v0)]) h dX10_valley_92 rfl (by decide) rfl ?_
        exact V.sub [1, 0] rfl hf)
    (by
      intro v0 v2 M hf
      show V l G X 0 0 M 93 [(0, .ref v0), (2, .int v2)] []
      refine r_iload_n h 1 dX10_valley_93 rfl rfl ?_
      refine r_sipush (v := 1244) h dX10_valley_94 (by decide) ?_
      refine r_icmp_ge (tgt := 118) h dX10_valley_97 (by decide) (fun c45 => ?_) (fun c45 => ?_)
      · have hf := ite_t c45 hf
        refine r_iconst (v := 0) h dX10_valley_118 (by decide) ?_
        exact r_ireturn h hq dX10_valley_119 ⟨_, rfl, hf⟩
      · have hf := ite_f c45 hf
        refine r_aload_n h 0 dX10_valley_100 rfl rfl ?_
        obtain ⟨k46, hf⟩ := hf
        obtain ⟨b47, e48, hf⟩ := hf
        refine g1598 h dX10_valley_101 k46 e48 ?_
        refine r_iload_n h 1 dX10_valley_104 rfl rfl ?_
        refine r_aload_n h 0 dX10_valley_105 rfl rfl ?_
        obtain ⟨b49, e50, hf⟩ := hf
        refine g1600 h dX10_valley_106 k46 e50 ?_
        refine r_iload_n h 1 dX10_valley_109 rfl rfl ?_
        obtain ⟨j51, hf⟩ := hf
        refine r_iaload h dX10_valley_110 j51 ?_
        obtain ⟨j52, hf⟩ := hf
        refine r_iastore h dX10_valley_111 j52 ?_
        refine r_goW (fun M53 eM53 => ?_)
        have hf := hf M53 eM53
        refine r_iinc (v := v2 + 1) (lv' := [(2, .int (v2 + 1)), (0, .ref v0)]) h 1 dX10_valley_112 rfl rfl (by decide) rfl ?_
        refine r_goto (tgt := 93) h dX10_valley_115 (by decide) ?_
        exact V.sub [1, 0] rfl hf)
  refine r_iconst (v := 0) h dX10_valley_0 (by decide) ?_
  refine r_istore_n (lv' := [(1, .int 0), (0, .ref a0)]) h dX10_valley_1 rfl (by decide) rfl ?_
  exact V.sub [1, 0] rfl hf
theorem c1739 {l : Launch} {G : gG} {X : gX} {cc : ByteArray} {nL F L bc bs pc : Nat} {M : gM} {lv : List (Nat × Value)} {rest : List Value} {a0 : Nat} {K : Int32 → gM → Prop} (hl : l.stackTraces = false) (h : hX l G X cc nL "GlacierMailLaw" F L) (d : decode cc pc = .ok (.invokevirtual 154, 3)) (hk : kd M a0 = some (.inl 10)) (hf : f_X10_valley a0 M K) (hst : (rest.map fun v => v.category).sum ≤ 8) (hF : 34 ≤ F) (hL : 741 ≤ L) (kk : ∀ x M1, K x M1 → V l G X bc bs M1 (pc + 3) lv (.int x :: rest)) : V l G X bc bs M pc lv (.ref a0 :: rest) := r_callV (n := 0) (As := []) h (m_X10_valley hl hf) 10 rfl hk rfl ⟨by decide, by decide, by decide +kernel⟩ d q1739 q1740 q1741 q147 q1742 rfl rfl hst hF hL (Nat.zero_le _) (Nat.zero_le _) (kI_go kk) kN_go
def f_X10_law (a0 : Nat) (M : gM) (K : Int32 → gM → Prop) : Prop :=
  ∀ P19 : Nat → Int32 → Int32 → Nat → gM → Prop,
  ∀ P32 : Nat → Int32 → Int32 → Nat → gM → Prop,
  ∀ P52 : Nat → Int32 → Int32 → gM → Prop,
  (∀ (v0 : Nat) (v1 : Int32) (s0 : Int32) (s1 : Nat) (M : gM), (kd M s1 = some (.inl 10) ∧ ∀ M7, M7 = sI M s1 13 s0 → if 0 ≤ v1 then P32 v0 v1 0 v0 M7 else P32 v0 v1 1 v0 M7) → P19 v0 v1 s0 s1 M) →
  (∀ (v0 : Nat) (v1 : Int32) (s0 : Int32) (s1 : Nat) (M : gM), (kd M s1 = some (.inl 10) ∧ f_X10_throwsIf s1 s0 1 M (fun x11 M10 => if x11 = 0 then kd M10 v0 = some (.inl 10) ∧ ∃ b14, rv M10 v0 1 = some b14 ∧ inA M10 b14 0 1244 ∧ ∀ M17, M17 = sI M10 b14 (ix 1244) v1 → P52 v0 v1 0 M17 else K 0 M10)) → P32 v0 v1 s0 s1 M) →
  (∀ (v0 : Nat) (v1 : Int32) (v2 : Int32) (M : gM), (if 849 ≤ v2 then kd M v0 = some (.inl 10) ∧ ∃ b20, rv M v0 1 = some b20 ∧ inA M b20 0 8 ∧ ∀ M23, M23 = sI M b20 (ix 8) 1 → kd M23 v0 = some (.inl 10) ∧ ∀ M25, M25 = sI M23 v0 6 0 → kd M25 v0 = some (.inl 10) ∧ f_X10_warms v0 M25 (fun M27 => K v1 M27) else kd M v0 = some (.inl 10) ∧ ∃ b29, rv M v0 1 = some b29 ∧ ∃ b31, rv M v0 1 = some b31 ∧ inA M b31 0 ((1244 : Int32) + v2) ∧ inA M b29 0 ((395 : Int32) + v2) ∧ ∀ M35, M35 = sI M b29 (ix ((395 : Int32) + v2)) (iv M b31 (ix ((1244 : Int32) + v2))) → P52 v0 v1 (v2 + 1) M35) → P52 v0 v1 v2 M) →
  kd M a0 = some (.inl 10) ∧ f_X10_readAll a0 0 M (fun x3 M2 => if 0 ≤ x3 then P19 a0 x3 (-1) a0 M2 else kd M2 a0 = some (.inl 10) ∧ P19 a0 x3 (iv M2 a0 11) a0 M2)
set_option maxHeartbeats 4000000 in
theorem m_X10_law {l : Launch} (hl : l.stackTraces = false) {G : gG} {a0 : Nat} {M : gM} {K : Int32 → gM → Prop} (hf : f_X10_law a0 M K) : gMet l G yX10_law (ws_ yX10_law cX10_law 3 (some Jvm.ClassFile.FieldType.int)) ({ frames := 33, cells := 0, slots := 0, locals := 719 }) M [.ref a0] (kI K) kN := by
  refine gm_of hl (ret := (some Jvm.ClassFile.FieldType.int)) rfl (Nat.le_of_ble_eq_true rfl) (fun X h hq => ?_)
  have h : hX l G X cX10_law 3 "GlacierMailModel" 33 719 := h
  have hf := hf
  show V l G X 0 0 M 0 [(0, .ref a0)] []
  have hf := hf
    (fun v0 v1 s0 s1 M => V l G X 0 0 M 19 [(0, .ref v0), (1, .int v1)] [.int s0, .ref s1])
    (fun v0 v1 s0 s1 M => V l G X 0 0 M 32 [(0, .ref v0), (1, .int v1)] [.int s0, .ref s1])
    (fun v0 v1 v2 M => V l G X 0 0 M 52 [(0, .ref v0), (1, .int v1), (2, .int v2)] [])
    (by
      intro v0 v1 s0 s1 M hf
      show V l G X 0 0 M 19 [(0, .ref v0), (1, .int v1)] [.int s0, .ref s1]
      obtain ⟨k6, hf⟩ := hf
      refine p1610 h dX10_law_19 k6 ?_
      refine r_goW (fun M7 eM7 => ?_)
      have hf := hf M7 eM7
      refine r_aload_n h 0 dX10_law_22 rfl rfl ?_
      refine r_iload_n h 1 dX10_law_23 rfl rfl ?_
      refine r_if_ge (tgt := 31) h dX10_law_24 (by decide) (fun c8 => ?_) (fun c8 => ?_)
      · have hf := ite_t c8 hf
        refine r_iconst (v := 0) h dX10_law_31 (by decide) ?_
        exact V.sub [0, 1] rfl hf
      · have hf := ite_f c8 hf
        refine r_iconst (v := 1) h dX10_law_27 (by decide) ?_
        refine r_goto (tgt := 32) h dX10_law_28 (by decide) ?_
        exact V.sub [0, 1] rfl hf)
    (by
      intro v0 v1 s0 s1 M hf
      show V l G X 0 0 M 32 [(0, .ref v0), (1, .int v1)] [.int s0, .ref s1]
      refine r_iconst (v := 1) h dX10_law_32 (by decide) ?_
      obtain ⟨k9, hf⟩ := hf
      refine c1929 hl h dX10_law_33 k9 hf (Nat.le_of_ble_eq_true rfl) (by decide) (by decide) (fun x11 M10 hf => ?_)
      refine r_if_eq (tgt := 41) h dX10_law_36 (by decide) (fun c12 => ?_) (fun c12 => ?_)
      · have hf := ite_t c12 hf
        refine r_aload_n h 0 dX10_law_41 rfl rfl ?_
        obtain ⟨k13, hf⟩ := hf
        obtain ⟨b14, e15, hf⟩ := hf
        refine g1598 h dX10_law_42 k13 e15 ?_
        refine r_sipush (v := 1244) h dX10_law_45 (by decide) ?_
        refine r_iload_n h 1 dX10_law_48 rfl rfl ?_
        obtain ⟨j16, hf⟩ := hf
        refine r_iastore h dX10_law_49 j16 ?_
        refine r_goW (fun M17 eM17 => ?_)
        have hf := hf M17 eM17
        refine r_iconst (v := 0) h dX10_law_50 (by decide) ?_
        refine r_istore_n (lv' := [(2, .int 0), (0, .ref v0), (1, .int v1)]) h dX10_law_51 rfl (by decide) rfl ?_
        exact V.sub [1, 2, 0] rfl hf
      · have hf := ite_f c12 hf
        refine r_iconst (v := 0) h dX10_law_39 (by decide) ?_
        exact r_ireturn h hq dX10_law_40 ⟨_, rfl, hf⟩)
    (by
      intro v0 v1 v2 M hf
      show V l G X 0 0 M 52 [(0, .ref v0), (1, .int v1), (2, .int v2)] []
      refine r_iload_n h 2 dX10_law_52 rfl rfl ?_
      refine r_sipush (v := 849) h dX10_law_53 (by decide) ?_
      refine r_icmp_ge (tgt := 85) h dX10_law_56 (by decide) (fun c18 => ?_) (fun c18 => ?_)
      · have hf := ite_t c18 hf
        refine r_aload_n h 0 dX10_law_85 rfl rfl ?_
        obtain ⟨k19, hf⟩ := hf
        obtain ⟨b20, e21, hf⟩ := hf
        refine g1598 h dX10_law_86 k19 e21 ?_
        refine r_bipush (v := 8) h dX10_law_89 (by decide) ?_
        refine r_iconst (v := 1) h dX10_law_91 (by decide) ?_
        obtain ⟨j22, hf⟩ := hf
        refine r_iastore h dX10_law_92 j22 ?_
        refine r_goW (fun M23 eM23 => ?_)
        have hf := hf M23 eM23
        refine r_aload_n h 0 dX10_law_93 rfl rfl ?_
        refine r_iconst (v := 0) h dX10_law_94 (by decide) ?_
        obtain ⟨k24, hf⟩ := hf
        refine p1603 h dX10_law_95 k24 ?_
        refine r_goW (fun M25 eM25 => ?_)
        have hf := hf M25 eM25
        refine r_aload_n h 0 dX10_law_98 rfl rfl ?_
        obtain ⟨k26, hf⟩ := hf
        refine c1592 hl h dX10_law_99 k26 hf (Nat.le_of_ble_eq_true rfl) (by decide) (by decide) (fun M27 hf => ?_)
        refine r_iload_n h 1 dX10_law_102 rfl rfl ?_
        exact r_ireturn h hq dX10_law_103 ⟨_, rfl, hf⟩
      · have hf := ite_f c18 hf
        refine r_aload_n h 0 dX10_law_59 rfl rfl ?_
        obtain ⟨k28, hf⟩ := hf
        obtain ⟨b29, e30, hf⟩ := hf
        refine g1598 h dX10_law_60 k28 e30 ?_
        refine r_sipush (v := 395) h dX10_law_63 (by decide) ?_
        refine r_iload_n h 2 dX10_law_66 rfl rfl ?_
        refine r_iadd h dX10_law_67 ?_
        refine r_aload_n h 0 dX10_law_68 rfl rfl ?_
        obtain ⟨b31, e32, hf⟩ := hf
        refine g1598 h dX10_law_69 k28 e32 ?_
        refine r_sipush (v := 1244) h dX10_law_72 (by decide) ?_
        refine r_iload_n h 2 dX10_law_75 rfl rfl ?_
        refine r_iadd h dX10_law_76 ?_
        obtain ⟨j33, hf⟩ := hf
        refine r_iaload h dX10_law_77 j33 ?_
        obtain ⟨j34, hf⟩ := hf
        refine r_iastore h dX10_law_78 j34 ?_
        refine r_goW (fun M35 eM35 => ?_)
        have hf := hf M35 eM35
        refine r_iinc (v := v2 + 1) (lv' := [(2, .int (v2 + 1)), (0, .ref v0), (1, .int v1)]) h 2 dX10_law_79 rfl rfl (by decide) rfl ?_
        refine r_goto (tgt := 52) h dX10_law_82 (by decide) ?_
        exact V.sub [1, 2, 0] rfl hf)
  refine r_aload_n h 0 dX10_law_0 rfl rfl ?_
  refine r_iconst (v := 0) h dX10_law_1 (by decide) ?_
  obtain ⟨k1, hf⟩ := hf
  refine c1743 hl h dX10_law_2 k1 hf (Nat.le_of_ble_eq_true rfl) (by decide) (by decide) (fun x3 M2 hf => ?_)
  refine r_istore_n (lv' := [(1, .int x3), (0, .ref a0)]) h dX10_law_5 rfl (by decide) rfl ?_
  refine r_aload_n h 1 dX10_law_6 rfl rfl ?_
  refine r_iload_n h 0 dX10_law_7 rfl rfl ?_
  refine r_if_ge (tgt := 18) h dX10_law_8 (by decide) (fun c4 => ?_) (fun c4 => ?_)
  · have hf := ite_t c4 hf
    refine r_iconst (v := (-1)) h dX10_law_18 (by decide) ?_
    exact V.sub [1, 0] rfl hf
  · have hf := ite_f c4 hf
    refine r_aload_n h 1 dX10_law_11 rfl rfl ?_
    obtain ⟨k5, hf⟩ := hf
    refine g1608 h dX10_law_12 k5 ?_
    refine r_goto (tgt := 19) h dX10_law_15 (by decide) ?_
    exact V.sub [1, 0] rfl hf
theorem c1933 {l : Launch} {G : gG} {X : gX} {cc : ByteArray} {nL F L bc bs pc : Nat} {M : gM} {lv : List (Nat × Value)} {rest : List Value} {a0 : Nat} {K : Int32 → gM → Prop} (hl : l.stackTraces = false) (h : hX l G X cc nL "GlacierMailLaw" F L) (d : decode cc pc = .ok (.invokevirtual 160, 3)) (hk : kd M a0 = some (.inl 10)) (hf : f_X10_law a0 M K) (hst : (rest.map fun v => v.category).sum ≤ 8) (hF : 34 ≤ F) (hL : 741 ≤ L) (kk : ∀ x M1, K x M1 → V l G X bc bs M1 (pc + 3) lv (.int x :: rest)) : V l G X bc bs M pc lv (.ref a0 :: rest) := r_callV (n := 0) (As := []) h (m_X10_law hl hf) 10 rfl hk rfl ⟨by decide, by decide, by decide +kernel⟩ d q1933 q1934 q1935 q147 q1936 rfl rfl hst hF hL (Nat.zero_le _) (Nat.zero_le _) (kI_go kk) kN_go
def f_X10_in (a0 : Int32) (a1 : Int32) (a2 : Int32) (M : gM) (K : Int32 → gM → Prop) : Prop :=
  if a0 < a1 then K 0 M else if a2 < a0 then K 0 M else K 1 M
set_option maxHeartbeats 4000000 in
theorem m_X10_in {l : Launch} (hl : l.stackTraces = false) {G : gG} {a0 : Int32} {a1 : Int32} {a2 : Int32} {M : gM} {K : Int32 → gM → Prop} (hf : f_X10_in a0 a1 a2 M K) : gMet l G yX10_in (ws_ yX10_in cX10_in 3 (some Jvm.ClassFile.FieldType.boolean)) ({ frames := 0, cells := 0, slots := 0, locals := 0 }) M [.int a0, .int a1, .int a2] (kI K) kN := by
  refine gm_of hl (ret := (some Jvm.ClassFile.FieldType.boolean)) rfl (Nat.le_of_ble_eq_true rfl) (fun X h hq => ?_)
  have h : hX l G X cX10_in 3 "GlacierMailModel" 0 0 := h
  have hf := hf
  show V l G X 0 0 M 0 [(0, .int a0), (1, .int a1), (2, .int a2)] []
  unfold f_X10_in at hf
  refine r_iload_n h 0 dX10_in_0 rfl rfl ?_
  refine r_iload_n h 1 dX10_in_1 rfl rfl ?_
  refine r_icmp_lt (tgt := 14) h dX10_in_2 (by decide) (fun c1 => ?_) (fun c1 => ?_)
  · have hf := ite_t c1 hf
    refine r_iconst (v := 0) h dX10_in_14 (by decide) ?_
    exact r_zreturn h hq dX10_in_15 (by decide) ⟨_, rfl, hf⟩
  · have hf := ite_f c1 hf
    refine r_iload_n h 0 dX10_in_5 rfl rfl ?_
    refine r_iload_n h 2 dX10_in_6 rfl rfl ?_
    refine r_icmp_gt (tgt := 14) h dX10_in_7 (by decide) (fun c2 => ?_) (fun c2 => ?_)
    · have hf := ite_t c2 hf
      refine r_iconst (v := 0) h dX10_in_14 (by decide) ?_
      exact r_zreturn h hq dX10_in_15 (by decide) ⟨_, rfl, hf⟩
    · have hf := ite_f c2 hf
      refine r_iconst (v := 1) h dX10_in_10 (by decide) ?_
      refine r_goto (tgt := 15) h dX10_in_11 (by decide) ?_
      exact r_zreturn h hq dX10_in_15 (by decide) ⟨_, rfl, hf⟩
theorem c1944 {l : Launch} {G : gG} {X : gX} {cc : ByteArray} {nL F L bc bs pc : Nat} {M : gM} {lv : List (Nat × Value)} {rest : List Value} {a0 : Int32} {a1 : Int32} {a2 : Int32} {K : Int32 → gM → Prop} (hl : l.stackTraces = false) (h : hX l G X cc nL "GlacierMailModel" F L) (d : decode cc pc = .ok (.invokestatic 90, 3)) (hf : f_X10_in a0 a1 a2 M K) (hst : (rest.map fun v => v.category).sum ≤ 8) (hF : 1 ≤ F) (hL : 22 ≤ L) (kk : ∀ x M1, K x M1 → V l G X bc bs M1 (pc + 3) lv (.int x :: rest)) : V l G X bc bs M pc lv (.int a2 :: .int a1 :: .int a0 :: rest) := r_callS (n := 3) (As := [.int a0, .int a1, .int a2]) h (m_X10_in hl hf) ⟨by decide, by decide, by decide +kernel⟩ d q1944 q1945 q147 q1946 rfl rfl hst hF hL (Nat.zero_le _) (Nat.zero_le _) (kI_go kk) kN_go
def f_X10_noYear (a0 : Int32) (M : gM) (K : Int32 → gM → Prop) : Prop :=
  f_X10_in a0 0 299 M (fun x2 M1 => if x2 = 0 then K 1 M1 else K 0 M1)
set_option maxHeartbeats 4000000 in
theorem m_X10_noYear {l : Launch} (hl : l.stackTraces = false) {G : gG} {a0 : Int32} {M : gM} {K : Int32 → gM → Prop} (hf : f_X10_noYear a0 M K) : gMet l G yX10_noYear (ws_ yX10_noYear cX10_noYear 1 (some Jvm.ClassFile.FieldType.boolean)) ({ frames := 1, cells := 0, slots := 0, locals := 22 }) M [.int a0] (kI K) kN := by
  refine gm_of hl (ret := (some Jvm.ClassFile.FieldType.boolean)) rfl (Nat.le_of_ble_eq_true rfl) (fun X h hq => ?_)
  have h : hX l G X cX10_noYear 1 "GlacierMailModel" 1 22 := h
  have hf := hf
  show V l G X 0 0 M 0 [(0, .int a0)] []
  unfold f_X10_noYear at hf
  refine r_iload_n h 0 dX10_noYear_0 rfl rfl ?_
  refine r_iconst (v := 0) h dX10_noYear_1 (by decide) ?_
  refine r_sipush (v := 299) h dX10_noYear_2 (by decide) ?_
  refine c1944 hl h dX10_noYear_5 hf (Nat.le_of_ble_eq_true rfl) (by decide) (by decide) (fun x2 M1 hf => ?_)
  refine r_if_ne (tgt := 15) h dX10_noYear_8 (by decide) (fun c3 => ?_) (fun c3 => ?_)
  · have hf := ite_f c3 hf
    refine r_iconst (v := 0) h dX10_noYear_15 (by decide) ?_
    exact r_zreturn h hq dX10_noYear_16 (by decide) ⟨_, rfl, hf⟩
  · have hf := ite_t c3 hf
    refine r_iconst (v := 1) h dX10_noYear_11 (by decide) ?_
    refine r_goto (tgt := 16) h dX10_noYear_12 (by decide) ?_
    exact r_zreturn h hq dX10_noYear_16 (by decide) ⟨_, rfl, hf⟩
theorem c1941 {l : Launch} {G : gG} {X : gX} {cc : ByteArray} {nL F L bc bs pc : Nat} {M : gM} {lv : List (Nat × Value)} {rest : List Value} {a0 : Int32} {K : Int32 → gM → Prop} (hl : l.stackTraces = false) (h : hX l G X cc nL "GlacierMailModel" F L) (d : decode cc pc = .ok (.invokestatic 353, 3)) (hf : f_X10_noYear a0 M K) (hst : (rest.map fun v => v.category).sum ≤ 8) (hF : 2 ≤ F) (hL : 42 ≤ L) (kk : ∀ x M1, K x M1 → V l G X bc bs M1 (pc + 3) lv (.int x :: rest)) : V l G X bc bs M pc lv (.int a0 :: rest) := r_callS (n := 1) (As := [.int a0]) h (m_X10_noYear hl hf) ⟨by decide, by decide, by decide +kernel⟩ d q1941 q1942 q147 q1943 rfl rfl hst hF hL (Nat.zero_le _) (Nat.zero_le _) (kI_go kk) kN_go
def f_X10_heat (a0 : Nat) (a1 : Int32) (M : gM) (K : Int32 → gM → Prop) : Prop :=
  kd M a0 = some (.inl 10) ∧ ∀ M2, M2 = sI M a0 0 0 → f_X10_noYear a1 M2 (fun x4 M3 => kd M3 a0 = some (.inl 10) ∧ f_X10_throwsIf a0 x4 1 M3 (fun x7 M6 => if x7 = 0 then kd M6 a0 = some (.inl 10) ∧ ∃ b10, rv M6 a0 24 = some b10 ∧ inA M6 b10 0 a1 ∧ K (iv M6 b10 (ix a1)) M6 else K 0 M6))
set_option maxHeartbeats 4000000 in
theorem m_X10_heat {l : Launch} (hl : l.stackTraces = false) {G : gG} {a0 : Nat} {a1 : Int32} {M : gM} {K : Int32 → gM → Prop} (hf : f_X10_heat a0 a1 M K) : gMet l G yX10_heat (ws_ yX10_heat cX10_heat 2 (some Jvm.ClassFile.FieldType.int)) ({ frames := 2, cells := 0, slots := 0, locals := 42 }) M [.ref a0, .int a1] (kI K) kN := by
  refine gm_of hl (ret := (some Jvm.ClassFile.FieldType.int)) rfl (Nat.le_of_ble_eq_true rfl) (fun X h hq => ?_)
  have h : hX l G X cX10_heat 2 "GlacierMailModel" 2 42 := h
  have hf := hf
  show V l G X 0 0 M 0 [(0, .ref a0), (1, .int a1)] []
  unfold f_X10_heat at hf
  refine r_aload_n h 0 dX10_heat_0 rfl rfl ?_
  refine r_iconst (v := 0) h dX10_heat_1 (by decide) ?_
  obtain ⟨k1, hf⟩ := hf
  refine p1597 h dX10_heat_2 k1 ?_
  refine r_goW (fun M2 eM2 => ?_)
  have hf := hf M2 eM2
  refine r_aload_n h 0 dX10_heat_5 rfl rfl ?_
  refine r_iload_n h 1 dX10_heat_6 rfl rfl ?_
  refine c1941 hl h dX10_heat_7 hf (Nat.le_of_ble_eq_true rfl) (by decide) (by decide) (fun x4 M3 hf => ?_)
  refine r_iconst (v := 1) h dX10_heat_10 (by decide) ?_
  obtain ⟨k5, hf⟩ := hf
  refine c1929 hl h dX10_heat_11 k5 hf (Nat.le_of_ble_eq_true rfl) (by decide) (by decide) (fun x7 M6 hf => ?_)
  refine r_if_eq (tgt := 21) h dX10_heat_14 (by decide) (fun c8 => ?_) (fun c8 => ?_)
  · have hf := ite_t c8 hf
    refine r_aload_n h 0 dX10_heat_21 rfl rfl ?_
    obtain ⟨k9, hf⟩ := hf
    obtain ⟨b10, e11, hf⟩ := hf
    refine g1621 h dX10_heat_22 k9 e11 ?_
    refine r_iload_n h 1 dX10_heat_25 rfl rfl ?_
    obtain ⟨j12, hf⟩ := hf
    refine r_iaload h dX10_heat_26 j12 ?_
    exact r_ireturn h hq dX10_heat_27 ⟨_, rfl, hf⟩
  · have hf := ite_f c8 hf
    refine r_iconst (v := 0) h dX10_heat_17 (by decide) ?_
    refine r_goto (tgt := 27) h dX10_heat_18 (by decide) ?_
    exact r_ireturn h hq dX10_heat_27 ⟨_, rfl, hf⟩
theorem c1937 {l : Launch} {G : gG} {X : gX} {cc : ByteArray} {nL F L bc bs pc : Nat} {M : gM} {lv : List (Nat × Value)} {rest : List Value} {a0 : Nat} {a1 : Int32} {K : Int32 → gM → Prop} (hl : l.stackTraces = false) (h : hX l G X cc nL "GlacierMailLaw" F L) (d : decode cc pc = .ok (.invokevirtual 168, 3)) (hk : kd M a0 = some (.inl 10)) (hf : f_X10_heat a0 a1 M K) (hst : (rest.map fun v => v.category).sum ≤ 8) (hF : 3 ≤ F) (hL : 63 ≤ L) (kk : ∀ x M1, K x M1 → V l G X bc bs M1 (pc + 3) lv (.int x :: rest)) : V l G X bc bs M pc lv (.int a1 :: .ref a0 :: rest) := r_callV (n := 1) (As := [.int a1]) h (m_X10_heat hl hf) 10 rfl hk rfl ⟨by decide, by decide, by decide +kernel⟩ d q1937 q1938 q1939 q147 q1940 rfl rfl hst hF hL (Nat.zero_le _) (Nat.zero_le _) (kI_go kk) kN_go
def f_X10_noLane (a0 : Nat) (a1 : Int32) (M : gM) (K : Int32 → gM → Prop) : Prop :=
  kd M a0 = some (.inl 10) ∧ f_X10_lanes a0 M (fun x3 M2 => f_X10_in a1 0 (x3 - 1) M2 (fun x5 M4 => if x5 = 0 then K 1 M4 else K 0 M4))
set_option maxHeartbeats 4000000 in
theorem m_X10_noLane {l : Launch} (hl : l.stackTraces = false) {G : gG} {a0 : Nat} {a1 : Int32} {M : gM} {K : Int32 → gM → Prop} (hf : f_X10_noLane a0 a1 M K) : gMet l G yX10_noLane (ws_ yX10_noLane cX10_noLane 2 (some Jvm.ClassFile.FieldType.boolean)) ({ frames := 1, cells := 0, slots := 0, locals := 22 }) M [.ref a0, .int a1] (kI K) kN := by
  refine gm_of hl (ret := (some Jvm.ClassFile.FieldType.boolean)) rfl (Nat.le_of_ble_eq_true rfl) (fun X h hq => ?_)
  have h : hX l G X cX10_noLane 2 "GlacierMailModel" 1 22 := h
  have hf := hf
  show V l G X 0 0 M 0 [(0, .ref a0), (1, .int a1)] []
  unfold f_X10_noLane at hf
  refine r_iload_n h 1 dX10_noLane_0 rfl rfl ?_
  refine r_iconst (v := 0) h dX10_noLane_1 (by decide) ?_
  refine r_aload_n h 0 dX10_noLane_2 rfl rfl ?_
  obtain ⟨k1, hf⟩ := hf
  refine c1820 hl h dX10_noLane_3 k1 hf (Nat.le_of_ble_eq_true rfl) (by decide) (by decide) (fun x3 M2 hf => ?_)
  refine r_iconst (v := 1) h dX10_noLane_6 (by decide) ?_
  refine r_isub h dX10_noLane_7 ?_
  refine c1944 hl h dX10_noLane_8 hf (Nat.le_of_ble_eq_true rfl) (by decide) (by decide) (fun x5 M4 hf => ?_)
  refine r_if_ne (tgt := 18) h dX10_noLane_11 (by decide) (fun c6 => ?_) (fun c6 => ?_)
  · have hf := ite_f c6 hf
    refine r_iconst (v := 0) h dX10_noLane_18 (by decide) ?_
    exact r_zreturn h hq dX10_noLane_19 (by decide) ⟨_, rfl, hf⟩
  · have hf := ite_t c6 hf
    refine r_iconst (v := 1) h dX10_noLane_14 (by decide) ?_
    refine r_goto (tgt := 19) h dX10_noLane_15 (by decide) ?_
    exact r_zreturn h hq dX10_noLane_19 (by decide) ⟨_, rfl, hf⟩
theorem c1951 {l : Launch} {G : gG} {X : gX} {cc : ByteArray} {nL F L bc bs pc : Nat} {M : gM} {lv : List (Nat × Value)} {rest : List Value} {a0 : Nat} {a1 : Int32} {K : Int32 → gM → Prop} (hl : l.stackTraces = false) (h : hX l G X cc nL "GlacierMailModel" F L) (d : decode cc pc = .ok (.invokevirtual 356, 3)) (hk : kd M a0 = some (.inl 10)) (hf : f_X10_noLane a0 a1 M K) (hst : (rest.map fun v => v.category).sum ≤ 8) (hF : 2 ≤ F) (hL : 43 ≤ L) (kk : ∀ x M1, K x M1 → V l G X bc bs M1 (pc + 3) lv (.int x :: rest)) : V l G X bc bs M pc lv (.int a1 :: .ref a0 :: rest) := r_callV (n := 1) (As := [.int a1]) h (m_X10_noLane hl hf) 10 rfl hk rfl ⟨by decide, by decide, by decide +kernel⟩ d q1951 q1953 qs92 q147 q1954 rfl rfl hst hF hL (Nat.zero_le _) (Nat.zero_le _) (kI_go kk) kN_go
def f_X10_noRow (a0 : Nat) (a1 : Int32) (M : gM) (K : Int32 → gM → Prop) : Prop :=
  kd M a0 = some (.inl 10) ∧ f_X10_lip a0 M (fun x3 M2 => f_X10_in a1 0 (x3 - 1) M2 (fun x5 M4 => if x5 = 0 then K 1 M4 else K 0 M4))
set_option maxHeartbeats 4000000 in
theorem m_X10_noRow {l : Launch} (hl : l.stackTraces = false) {G : gG} {a0 : Nat} {a1 : Int32} {M : gM} {K : Int32 → gM → Prop} (hf : f_X10_noRow a0 a1 M K) : gMet l G yX10_noRow (ws_ yX10_noRow cX10_noRow 2 (some Jvm.ClassFile.FieldType.boolean)) ({ frames := 1, cells := 0, slots := 0, locals := 22 }) M [.ref a0, .int a1] (kI K) kN := by
  refine gm_of hl (ret := (some Jvm.ClassFile.FieldType.boolean)) rfl (Nat.le_of_ble_eq_true rfl) (fun X h hq => ?_)
  have h : hX l G X cX10_noRow 2 "GlacierMailModel" 1 22 := h
  have hf := hf
  show V l G X 0 0 M 0 [(0, .ref a0), (1, .int a1)] []
  unfold f_X10_noRow at hf
  refine r_iload_n h 1 dX10_noRow_0 rfl rfl ?_
  refine r_iconst (v := 0) h dX10_noRow_1 (by decide) ?_
  refine r_aload_n h 0 dX10_noRow_2 rfl rfl ?_
  obtain ⟨k1, hf⟩ := hf
  refine c1812 hl h dX10_noRow_3 k1 hf (Nat.le_of_ble_eq_true rfl) (by decide) (by decide) (fun x3 M2 hf => ?_)
  refine r_iconst (v := 1) h dX10_noRow_6 (by decide) ?_
  refine r_isub h dX10_noRow_7 ?_
  refine c1944 hl h dX10_noRow_8 hf (Nat.le_of_ble_eq_true rfl) (by decide) (by decide) (fun x5 M4 hf => ?_)
  refine r_if_ne (tgt := 18) h dX10_noRow_11 (by decide) (fun c6 => ?_) (fun c6 => ?_)
  · have hf := ite_f c6 hf
    refine r_iconst (v := 0) h dX10_noRow_18 (by decide) ?_
    exact r_zreturn h hq dX10_noRow_19 (by decide) ⟨_, rfl, hf⟩
  · have hf := ite_t c6 hf
    refine r_iconst (v := 1) h dX10_noRow_14 (by decide) ?_
    refine r_goto (tgt := 19) h dX10_noRow_15 (by decide) ?_
    exact r_zreturn h hq dX10_noRow_19 (by decide) ⟨_, rfl, hf⟩
theorem c1955 {l : Launch} {G : gG} {X : gX} {cc : ByteArray} {nL F L bc bs pc : Nat} {M : gM} {lv : List (Nat × Value)} {rest : List Value} {a0 : Nat} {a1 : Int32} {K : Int32 → gM → Prop} (hl : l.stackTraces = false) (h : hX l G X cc nL "GlacierMailModel" F L) (d : decode cc pc = .ok (.invokevirtual 359, 3)) (hk : kd M a0 = some (.inl 10)) (hf : f_X10_noRow a0 a1 M K) (hst : (rest.map fun v => v.category).sum ≤ 8) (hF : 2 ≤ F) (hL : 43 ≤ L) (kk : ∀ x M1, K x M1 → V l G X bc bs M1 (pc + 3) lv (.int x :: rest)) : V l G X bc bs M pc lv (.int a1 :: .ref a0 :: rest) := r_callV (n := 1) (As := [.int a1]) h (m_X10_noRow hl hf) 10 rfl hk rfl ⟨by decide, by decide, by decide +kernel⟩ d q1955 q1957 qs93 q147 q1958 rfl rfl hst hF hL (Nat.zero_le _) (Nat.zero_le _) (kI_go kk) kN_go
def f_X10_speedAt (a0 : Nat) (a1 : Int32) (a2 : Int32) (M : gM) (K : Int32 → gM → Prop) : Prop :=
  ∀ P5 : Nat → Int32 → Int32 → Int32 → Int32 → gM → Prop,
  (∀ (v0 : Nat) (v1 : Int32) (v2 : Int32) (v3 : Int32) (v4 : Int32) (M : gM), (kd M v0 = some (.inl 10) ∧ ∃ b2, rv M v0 1 = some b2 ∧ inA M b2 0 2 ∧ if (iv M b2 (ix 2)) ≤ v4 then K v3 M else ∃ b6, rv M v0 1 = some b6 ∧ inA M b6 0 ((15 : Int32) + ((7 : Int32) * v4)) ∧ if v2 < (iv M b6 (ix ((15 : Int32) + ((7 : Int32) * v4)))) then P5 v0 v1 v2 v3 (v4 + 1) M else ∃ b10, rv M v0 1 = some b10 ∧ inA M b10 0 ((((15 : Int32) + ((7 : Int32) * v4)) + 1) + v1) ∧ ∀ x13, x13 = iv M b10 (ix ((((15 : Int32) + ((7 : Int32) * v4)) + 1) + v1)) → P5 v0 v1 v2 x13 (v4 + 1) M) → P5 v0 v1 v2 v3 v4 M) →
  P5 a0 a1 a2 0 0 M
set_option maxHeartbeats 4000000 in
theorem m_X10_speedAt {l : Launch} (hl : l.stackTraces = false) {G : gG} {a0 : Nat} {a1 : Int32} {a2 : Int32} {M : gM} {K : Int32 → gM → Prop} (hf : f_X10_speedAt a0 a1 a2 M K) : gMet l G yX10_speedAt (ws_ yX10_speedAt cX10_speedAt 5 (some Jvm.ClassFile.FieldType.int)) ({ frames := 0, cells := 0, slots := 0, locals := 0 }) M [.ref a0, .int a1, .int a2] (kI K) kN := by
  refine gm_of hl (ret := (some Jvm.ClassFile.FieldType.int)) rfl (Nat.le_of_ble_eq_true rfl) (fun X h hq => ?_)
  have h : hX l G X cX10_speedAt 5 "GlacierMailModel" 0 0 := h
  have hf := hf
  show V l G X 0 0 M 0 [(0, .ref a0), (1, .int a1), (2, .int a2)] []
  have hf := hf
    (fun v0 v1 v2 v3 v4 M => V l G X 0 0 M 5 [(0, .ref v0), (1, .int v1), (2, .int v2), (3, .int v3), (4, .int v4)] [])
    (by
      intro v0 v1 v2 v3 v4 M hf
      show V l G X 0 0 M 5 [(0, .ref v0), (1, .int v1), (2, .int v2), (3, .int v3), (4, .int v4)] []
      refine r_iload h 4 dX10_speedAt_5 rfl ?_
      refine r_aload_n h 0 dX10_speedAt_7 rfl rfl ?_
      obtain ⟨k1, hf⟩ := hf
      obtain ⟨b2, e3, hf⟩ := hf
      refine g1598 h dX10_speedAt_8 k1 e3 ?_
      refine r_iconst (v := 2) h dX10_speedAt_11 (by decide) ?_
      obtain ⟨j4, hf⟩ := hf
      refine r_iaload h dX10_speedAt_12 j4 ?_
      refine r_icmp_ge (tgt := 61) h dX10_speedAt_13 (by decide) (fun c5 => ?_) (fun c5 => ?_)
      · have hf := ite_t c5 hf
        refine r_iload_n h 3 dX10_speedAt_61 rfl rfl ?_
        exact r_ireturn h hq dX10_speedAt_62 ⟨_, rfl, hf⟩
      · have hf := ite_f c5 hf
        refine r_aload_n h 0 dX10_speedAt_16 rfl rfl ?_
        obtain ⟨b6, e7, hf⟩ := hf
        refine g1598 h dX10_speedAt_17 k1 e7 ?_
        refine r_bipush (v := 15) h dX10_speedAt_20 (by decide) ?_
        refine r_bipush (v := 7) h dX10_speedAt_22 (by decide) ?_
        refine r_iload h 4 dX10_speedAt_24 rfl ?_
        refine r_imul h dX10_speedAt_26 ?_
        refine r_iadd h dX10_speedAt_27 ?_
        obtain ⟨j8, hf⟩ := hf
        refine r_iaload h dX10_speedAt_28 j8 ?_
        refine r_iload_n h 2 dX10_speedAt_29 rfl rfl ?_
        refine r_icmp_gt (tgt := 53) h dX10_speedAt_30 (by decide) (fun c9 => ?_) (fun c9 => ?_)
        · have hf := ite_t c9 hf
          refine r_iload_n h 3 dX10_speedAt_53 rfl rfl ?_
          refine r_istore_n (lv' := [(3, .int v3), (0, .ref v0), (1, .int v1), (2, .int v2), (4, .int v4)]) h dX10_speedAt_54 rfl (by decide) rfl ?_
          refine r_iinc (v := v4 + 1) (lv' := [(4, .int (v4 + 1)), (3, .int v3), (0, .ref v0), (1, .int v1), (2, .int v2)]) h 4 dX10_speedAt_55 rfl rfl (by decide) rfl ?_
          refine r_goto (tgt := 5) h dX10_speedAt_58 (by decide) ?_
          exact V.sub [2, 3, 4, 1, 0] rfl hf
        · have hf := ite_f c9 hf
          refine r_aload_n h 0 dX10_speedAt_33 rfl rfl ?_
          obtain ⟨b10, e11, hf⟩ := hf
          refine g1598 h dX10_speedAt_34 k1 e11 ?_
          refine r_bipush (v := 15) h dX10_speedAt_37 (by decide) ?_
          refine r_bipush (v := 7) h dX10_speedAt_39 (by decide) ?_
          refine r_iload h 4 dX10_speedAt_41 rfl ?_
          refine r_imul h dX10_speedAt_43 ?_
          refine r_iadd h dX10_speedAt_44 ?_
          refine r_iconst (v := 1) h dX10_speedAt_45 (by decide) ?_
          refine r_iadd h dX10_speedAt_46 ?_
          refine r_iload_n h 1 dX10_speedAt_47 rfl rfl ?_
          refine r_iadd h dX10_speedAt_48 ?_
          obtain ⟨j12, hf⟩ := hf
          refine r_iaload h dX10_speedAt_49 j12 ?_
          refine r_goto (tgt := 54) h dX10_speedAt_50 (by decide) ?_
          refine r_nam (fun x13 ex13 => ?_)
          have hf := hf x13 ex13
          refine r_istore_n (lv' := [(3, .int x13), (0, .ref v0), (1, .int v1), (2, .int v2), (4, .int v4)]) h dX10_speedAt_54 rfl (by decide) rfl ?_
          refine r_iinc (v := v4 + 1) (lv' := [(4, .int (v4 + 1)), (3, .int x13), (0, .ref v0), (1, .int v1), (2, .int v2)]) h 4 dX10_speedAt_55 rfl rfl (by decide) rfl ?_
          refine r_goto (tgt := 5) h dX10_speedAt_58 (by decide) ?_
          exact V.sub [2, 3, 4, 1, 0] rfl hf)
  refine r_iconst (v := 0) h dX10_speedAt_0 (by decide) ?_
  refine r_istore_n (lv' := [(3, .int 0), (0, .ref a0), (1, .int a1), (2, .int a2)]) h dX10_speedAt_1 rfl (by decide) rfl ?_
  refine r_iconst (v := 0) h dX10_speedAt_2 (by decide) ?_
  refine r_istore (lv' := [(4, .int 0), (3, .int 0), (0, .ref a0), (1, .int a1), (2, .int a2)]) h dX10_speedAt_3 (by decide) rfl ?_
  exact V.sub [2, 3, 4, 1, 0] rfl hf
theorem c1959 {l : Launch} {G : gG} {X : gX} {cc : ByteArray} {nL F L bc bs pc : Nat} {M : gM} {lv : List (Nat × Value)} {rest : List Value} {a0 : Nat} {a1 : Int32} {a2 : Int32} {K : Int32 → gM → Prop} (hl : l.stackTraces = false) (h : hX l G X cc nL "GlacierMailModel" F L) (d : decode cc pc = .ok (.invokevirtual 338, 3)) (hk : kd M a0 = some (.inl 10)) (hf : f_X10_speedAt a0 a1 a2 M K) (hst : (rest.map fun v => v.category).sum ≤ 8) (hF : 1 ≤ F) (hL : 24 ≤ L) (kk : ∀ x M1, K x M1 → V l G X bc bs M1 (pc + 3) lv (.int x :: rest)) : V l G X bc bs M pc lv (.int a2 :: .int a1 :: .ref a0 :: rest) := r_callV (n := 2) (As := [.int a1, .int a2]) h (m_X10_speedAt hl hf) 10 rfl hk rfl ⟨by decide, by decide, by decide +kernel⟩ d q1959 q1961 qs94 q147 q1962 rfl rfl hst hF hL (Nat.zero_le _) (Nat.zero_le _) (kI_go kk) kN_go
def f_X10_speed (a0 : Nat) (a1 : Int32) (a2 : Int32) (M : gM) (K : Int32 → gM → Prop) : Prop :=
  ∀ P27 : Nat → Int32 → Int32 → Int32 → Nat → gM → Prop,
  (∀ (v0 : Nat) (v1 : Int32) (v2 : Int32) (s0 : Int32) (s1 : Nat) (M : gM), (kd M s1 = some (.inl 10) ∧ f_X10_throwsIf s1 s0 1 M (fun x13 M12 => if x13 = 0 then kd M12 v0 = some (.inl 10) ∧ f_X10_speedAt v0 v1 v2 M12 (fun x17 M16 => K x17 M16) else K 0 M12)) → P27 v0 v1 v2 s0 s1 M) →
  kd M a0 = some (.inl 10) ∧ ∀ M2, M2 = sI M a0 0 0 → kd M2 a0 = some (.inl 10) ∧ f_X10_noLane a0 a1 M2 (fun x5 M4 => if x5 = 0 then kd M4 a0 = some (.inl 10) ∧ f_X10_noRow a0 a2 M4 (fun x9 M8 => if x9 = 0 then P27 a0 a1 a2 0 a0 M8 else P27 a0 a1 a2 1 a0 M8) else P27 a0 a1 a2 1 a0 M4)
set_option maxHeartbeats 4000000 in
theorem m_X10_speed {l : Launch} (hl : l.stackTraces = false) {G : gG} {a0 : Nat} {a1 : Int32} {a2 : Int32} {M : gM} {K : Int32 → gM → Prop} (hf : f_X10_speed a0 a1 a2 M K) : gMet l G yX10_speed (ws_ yX10_speed cX10_speed 3 (some Jvm.ClassFile.FieldType.int)) ({ frames := 2, cells := 0, slots := 0, locals := 43 }) M [.ref a0, .int a1, .int a2] (kI K) kN := by
  refine gm_of hl (ret := (some Jvm.ClassFile.FieldType.int)) rfl (Nat.le_of_ble_eq_true rfl) (fun X h hq => ?_)
  have h : hX l G X cX10_speed 3 "GlacierMailModel" 2 43 := h
  have hf := hf
  show V l G X 0 0 M 0 [(0, .ref a0), (1, .int a1), (2, .int a2)] []
  have hf := hf
    (fun v0 v1 v2 s0 s1 M => V l G X 0 0 M 27 [(0, .ref v0), (1, .int v1), (2, .int v2)] [.int s0, .ref s1])
    (by
      intro v0 v1 v2 s0 s1 M hf
      show V l G X 0 0 M 27 [(0, .ref v0), (1, .int v1), (2, .int v2)] [.int s0, .ref s1]
      refine r_iconst (v := 1) h dX10_speed_27 (by decide) ?_
      obtain ⟨k11, hf⟩ := hf
      refine c1929 hl h dX10_speed_28 k11 hf (Nat.le_of_ble_eq_true rfl) (by decide) (by decide) (fun x13 M12 hf => ?_)
      refine r_if_eq (tgt := 38) h dX10_speed_31 (by decide) (fun c14 => ?_) (fun c14 => ?_)
      · have hf := ite_t c14 hf
        refine r_aload_n h 0 dX10_speed_38 rfl rfl ?_
        refine r_iload_n h 1 dX10_speed_39 rfl rfl ?_
        refine r_iload_n h 2 dX10_speed_40 rfl rfl ?_
        obtain ⟨k15, hf⟩ := hf
        refine c1959 hl h dX10_speed_41 k15 hf (Nat.le_of_ble_eq_true rfl) (by decide) (by decide) (fun x17 M16 hf => ?_)
        exact r_ireturn h hq dX10_speed_44 ⟨_, rfl, hf⟩
      · have hf := ite_f c14 hf
        refine r_iconst (v := 0) h dX10_speed_34 (by decide) ?_
        refine r_goto (tgt := 44) h dX10_speed_35 (by decide) ?_
        exact r_ireturn h hq dX10_speed_44 ⟨_, rfl, hf⟩)
  refine r_aload_n h 0 dX10_speed_0 rfl rfl ?_
  refine r_iconst (v := 0) h dX10_speed_1 (by decide) ?_
  obtain ⟨k1, hf⟩ := hf
  refine p1597 h dX10_speed_2 k1 ?_
  refine r_goW (fun M2 eM2 => ?_)
  have hf := hf M2 eM2
  refine r_aload_n h 0 dX10_speed_5 rfl rfl ?_
  refine r_aload_n h 0 dX10_speed_6 rfl rfl ?_
  refine r_iload_n h 1 dX10_speed_7 rfl rfl ?_
  obtain ⟨k3, hf⟩ := hf
  refine c1951 hl h dX10_speed_8 k3 hf (Nat.le_of_ble_eq_true rfl) (by decide) (by decide) (fun x5 M4 hf => ?_)
  refine r_if_ne (tgt := 22) h dX10_speed_11 (by decide) (fun c6 => ?_) (fun c6 => ?_)
  · have hf := ite_f c6 hf
    refine r_iconst (v := 1) h dX10_speed_22 (by decide) ?_
    refine r_goto (tgt := 27) h dX10_speed_23 (by decide) ?_
    exact V.sub [0, 1, 2] rfl hf
  · have hf := ite_t c6 hf
    refine r_aload_n h 0 dX10_speed_14 rfl rfl ?_
    refine r_iload_n h 2 dX10_speed_15 rfl rfl ?_
    obtain ⟨k7, hf⟩ := hf
    refine c1955 hl h dX10_speed_16 k7 hf (Nat.le_of_ble_eq_true rfl) (by decide) (by decide) (fun x9 M8 hf => ?_)
    refine r_if_eq (tgt := 26) h dX10_speed_19 (by decide) (fun c10 => ?_) (fun c10 => ?_)
    · have hf := ite_t c10 hf
      refine r_iconst (v := 0) h dX10_speed_26 (by decide) ?_
      exact V.sub [0, 1, 2] rfl hf
    · have hf := ite_f c10 hf
      refine r_iconst (v := 1) h dX10_speed_22 (by decide) ?_
      refine r_goto (tgt := 27) h dX10_speed_23 (by decide) ?_
      exact V.sub [0, 1, 2] rfl hf
theorem c1947 {l : Launch} {G : gG} {X : gX} {cc : ByteArray} {nL F L bc bs pc : Nat} {M : gM} {lv : List (Nat × Value)} {rest : List Value} {a0 : Nat} {a1 : Int32} {a2 : Int32} {K : Int32 → gM → Prop} (hl : l.stackTraces = false) (h : hX l G X cc nL "GlacierMailLaw" F L) (d : decode cc pc = .ok (.invokevirtual 172, 3)) (hk : kd M a0 = some (.inl 10)) (hf : f_X10_speed a0 a1 a2 M K) (hst : (rest.map fun v => v.category).sum ≤ 8) (hF : 3 ≤ F) (hL : 65 ≤ L) (kk : ∀ x M1, K x M1 → V l G X bc bs M1 (pc + 3) lv (.int x :: rest)) : V l G X bc bs M pc lv (.int a2 :: .int a1 :: .ref a0 :: rest) := r_callV (n := 2) (As := [.int a1, .int a2]) h (m_X10_speed hl hf) 10 rfl hk rfl ⟨by decide, by decide, by decide +kernel⟩ d q1947 q1948 q1949 q147 q1950 rfl rfl hst hF hL (Nat.zero_le _) (Nat.zero_le _) (kI_go kk) kN_go
def f_X10_turnsTo (a0 : Nat) (a1 : Int32) (M : gM) (K : gM → Prop) : Prop :=
  ∀ P16 : Nat → Int32 → gM → Prop,
  (∀ (v0 : Nat) (v2 : Int32) (M : gM), (kd M v0 = some (.inl 10) ∧ ∃ b5, rv M v0 25 = some b5 ∧ ∃ n7, kd M b5 = some (.inr (1, n7)) ∧ if (nI n7) ≤ v2 then K M else ∃ b10, rv M v0 25 = some b10 ∧ inA M b10 1 v2 ∧ ∀ M13, M13 = sI M b10 (ix v2) (0 : Int32).toInt8.toInt32 → P16 v0 (v2 + 1) M13) → P16 v0 v2 M) →
  kd M a0 = some (.inl 10) ∧ if a1 = (iv M a0 26) then K M else ∀ M3, M3 = sI M a0 26 a1 → P16 a0 0 M3
set_option maxHeartbeats 4000000 in
theorem m_X10_turnsTo {l : Launch} (hl : l.stackTraces = false) {G : gG} {a0 : Nat} {a1 : Int32} {M : gM} {K : gM → Prop} (hf : f_X10_turnsTo a0 a1 M K) : gMet l G yX10_turnsTo (ws_ yX10_turnsTo cX10_turnsTo 3 none) ({ frames := 0, cells := 0, slots := 0, locals := 0 }) M [.ref a0, .int a1] (kV K) kN := by
  refine gm_of hl (ret := none) rfl (Nat.le_of_ble_eq_true rfl) (fun X h hq => ?_)
  have h : hX l G X cX10_turnsTo 3 "GlacierMailModel" 0 0 := h
  have hf := hf
  show V l G X 0 0 M 0 [(0, .ref a0), (1, .int a1)] []
  have hf := hf
    (fun v0 v2 M => V l G X 0 0 M 16 [(0, .ref v0), (2, .int v2)] [])
    (by
      intro v0 v2 M hf
      show V l G X 0 0 M 16 [(0, .ref v0), (2, .int v2)] []
      refine r_iload_n h 1 dX10_turnsTo_16 rfl rfl ?_
      refine r_aload_n h 0 dX10_turnsTo_17 rfl rfl ?_
      obtain ⟨k4, hf⟩ := hf
      obtain ⟨b5, e6, hf⟩ := hf
      refine g1622 h dX10_turnsTo_18 k4 e6 ?_
      obtain ⟨n7, k8, hf⟩ := hf
      refine r_alen h 1 n7 (by decide) dX10_turnsTo_21 k8 ?_
      refine r_icmp_ge (tgt := 38) h dX10_turnsTo_22 (by decide) (fun c9 => ?_) (fun c9 => ?_)
      · have hf := ite_t c9 hf
        exact r_return h hq dX10_turnsTo_38 ⟨rfl, hf⟩
      · have hf := ite_f c9 hf
        refine r_aload_n h 0 dX10_turnsTo_25 rfl rfl ?_
        obtain ⟨b10, e11, hf⟩ := hf
        refine g1622 h dX10_turnsTo_26 k4 e11 ?_
        refine r_iload_n h 1 dX10_turnsTo_29 rfl rfl ?_
        refine r_iconst (v := 0) h dX10_turnsTo_30 (by decide) ?_
        obtain ⟨j12, hf⟩ := hf
        refine r_bastore h dX10_turnsTo_31 j12 ?_
        refine r_goW (fun M13 eM13 => ?_)
        have hf := hf M13 eM13
        refine r_iinc (v := v2 + 1) (lv' := [(2, .int (v2 + 1)), (0, .ref v0)]) h 1 dX10_turnsTo_32 rfl rfl (by decide) rfl ?_
        refine r_goto (tgt := 16) h dX10_turnsTo_35 (by decide) ?_
        exact V.sub [1, 0] rfl hf)
  refine r_iload_n h 1 dX10_turnsTo_0 rfl rfl ?_
  refine r_aload_n h 0 dX10_turnsTo_1 rfl rfl ?_
  obtain ⟨k1, hf⟩ := hf
  refine g1623 h dX10_turnsTo_2 k1 ?_
  refine r_icmp_ne (tgt := 9) h dX10_turnsTo_5 (by decide) (fun c2 => ?_) (fun c2 => ?_)
  · have hf := ite_f c2 hf
    refine r_aload_n h 0 dX10_turnsTo_9 rfl rfl ?_
    refine r_iload_n h 1 dX10_turnsTo_10 rfl rfl ?_
    refine p1623 h dX10_turnsTo_11 k1 ?_
    refine r_goW (fun M3 eM3 => ?_)
    have hf := hf M3 eM3
    refine r_iconst (v := 0) h dX10_turnsTo_14 (by decide) ?_
    refine r_istore_n (lv' := [(2, .int 0), (0, .ref a0), (1, .int a1)]) h dX10_turnsTo_15 rfl (by decide) rfl ?_
    exact V.sub [1, 0] rfl hf
  · have hf := ite_t c2 hf
    exact r_return h hq dX10_turnsTo_8 ⟨rfl, hf⟩
theorem c1971 {l : Launch} {G : gG} {X : gX} {cc : ByteArray} {nL F L bc bs pc : Nat} {M : gM} {lv : List (Nat × Value)} {rest : List Value} {a0 : Nat} {a1 : Int32} {K : gM → Prop} (hl : l.stackTraces = false) (h : hX l G X cc nL "GlacierMailModel" F L) (d : decode cc pc = .ok (.invokevirtual 334, 3)) (hk : kd M a0 = some (.inl 10)) (hf : f_X10_turnsTo a0 a1 M K) (hst : (rest.map fun v => v.category).sum ≤ 8) (hF : 1 ≤ F) (hL : 22 ≤ L) (kk : ∀ M1, K M1 → V l G X bc bs M1 (pc + 3) lv rest) : V l G X bc bs M pc lv (.int a1 :: .ref a0 :: rest) := r_callV (n := 1) (As := [.int a1]) h (m_X10_turnsTo hl hf) 10 rfl hk rfl ⟨by decide, by decide, by decide +kernel⟩ d q1971 q1973 qs96 q147 q1974 rfl rfl hst hF hL (Nat.zero_le _) (Nat.zero_le _) (kV_go kk) kN_go
def f_X10_factOf (a0 : Nat) (a1 : Int32) (a2 : Int32) (M : gM) (K : Int32 → gM → Prop) : Prop :=
  if a1 = 0 then kd M a0 = some (.inl 10) ∧ K (iv M a0 17) M else if a1 = 1 then kd M a0 = some (.inl 10) ∧ K (iv M a0 18) M else if a1 = 2 then kd M a0 = some (.inl 10) ∧ K (iv M a0 19) M else if a1 = 3 then kd M a0 = some (.inl 10) ∧ ∃ b9, rv M a0 24 = some b9 ∧ inA M b9 0 (iv M a0 19) ∧ K (iv M b9 (ix (iv M a0 19))) M else if a1 = 4 then kd M a0 = some (.inl 10) ∧ K (iv M a0 20) M else if a1 = 5 then kd M a0 = some (.inl 10) ∧ K (iv M a0 21) M else if a1 = 6 then kd M a0 = some (.inl 10) ∧ K (iv M a0 22) M else if a1 = 7 then kd M a0 = some (.inl 10) ∧ K (iv M a0 23) M else if a1 = 8 then kd M a0 = some (.inl 10) ∧ if (iv M a0 17) = 0 then K 1 M else f_X10_lanes a0 M (fun x24 M23 => if (iv M a0 17) = (x24 - 1) then K 1 M23 else K 0 M23) else if a1 = 9 then kd M a0 = some (.inl 10) ∧ ∃ b28, rv M a0 1 = some b28 ∧ inA M b28 0 12 ∧ if (iv M b28 (ix 12)) ≤ (iv M a0 17) then K 0 M else K 1 M else K a2 M
set_option maxHeartbeats 4000000 in
theorem m_X10_factOf {l : Launch} (hl : l.stackTraces = false) {G : gG} {a0 : Nat} {a1 : Int32} {a2 : Int32} {M : gM} {K : Int32 → gM → Prop} (hf : f_X10_factOf a0 a1 a2 M K) : gMet l G yX10_factOf (ws_ yX10_factOf cX10_factOf 3 (some Jvm.ClassFile.FieldType.int)) ({ frames := 1, cells := 0, slots := 0, locals := 20 }) M [.ref a0, .int a1, .int a2] (kI K) kN := by
  refine gm_of hl (ret := (some Jvm.ClassFile.FieldType.int)) rfl (Nat.le_of_ble_eq_true rfl) (fun X h hq => ?_)
  have h : hX l G X cX10_factOf 3 "GlacierMailModel" 1 20 := h
  have hf := hf
  show V l G X 0 0 M 0 [(0, .ref a0), (1, .int a1), (2, .int a2)] []
  unfold f_X10_factOf at hf
  refine r_iload_n h 1 dX10_factOf_0 rfl rfl ?_
  by_cases c1 : a1 = 0
  · have hf := ite_t c1 hf
    refine r_tableIn (off := 55) (tgt := 56) h dX10_factOf_1 (by rw [c1]; decide) (by rw [c1]; decide) (by rw [c1]; rfl) (by decide) ?_
    refine r_aload_n h 0 dX10_factOf_56 rfl rfl ?_
    obtain ⟨k2, hf⟩ := hf
    refine g1614 h dX10_factOf_57 k2 ?_
    exact r_ireturn h hq dX10_factOf_60 ⟨_, rfl, hf⟩
  have hf := ite_f c1 hf
  by_cases c3 : a1 = 1
  · have hf := ite_t c3 hf
    refine r_tableIn (off := 60) (tgt := 61) h dX10_factOf_1 (by rw [c3]; decide) (by rw [c3]; decide) (by rw [c3]; rfl) (by decide) ?_
    refine r_aload_n h 0 dX10_factOf_61 rfl rfl ?_
    obtain ⟨k4, hf⟩ := hf
    refine g1615 h dX10_factOf_62 k4 ?_
    exact r_ireturn h hq dX10_factOf_65 ⟨_, rfl, hf⟩
  have hf := ite_f c3 hf
  by_cases c5 : a1 = 2
  · have hf := ite_t c5 hf
    refine r_tableIn (off := 65) (tgt := 66) h dX10_factOf_1 (by rw [c5]; decide) (by rw [c5]; decide) (by rw [c5]; rfl) (by decide) ?_
    refine r_aload_n h 0 dX10_factOf_66 rfl rfl ?_
    obtain ⟨k6, hf⟩ := hf
    refine g1616 h dX10_factOf_67 k6 ?_
    exact r_ireturn h hq dX10_factOf_70 ⟨_, rfl, hf⟩
  have hf := ite_f c5 hf
  by_cases c7 : a1 = 3
  · have hf := ite_t c7 hf
    refine r_tableIn (off := 70) (tgt := 71) h dX10_factOf_1 (by rw [c7]; decide) (by rw [c7]; decide) (by rw [c7]; rfl) (by decide) ?_
    refine r_aload_n h 0 dX10_factOf_71 rfl rfl ?_
    obtain ⟨k8, hf⟩ := hf
    obtain ⟨b9, e10, hf⟩ := hf
    refine g1621 h dX10_factOf_72 k8 e10 ?_
    refine r_aload_n h 0 dX10_factOf_75 rfl rfl ?_
    refine g1616 h dX10_factOf_76 k8 ?_
    obtain ⟨j11, hf⟩ := hf
    refine r_iaload h dX10_factOf_79 j11 ?_
    exact r_ireturn h hq dX10_factOf_80 ⟨_, rfl, hf⟩
  have hf := ite_f c7 hf
  by_cases c12 : a1 = 4
  · have hf := ite_t c12 hf
    refine r_tableIn (off := 80) (tgt := 81) h dX10_factOf_1 (by rw [c12]; decide) (by rw [c12]; decide) (by rw [c12]; rfl) (by decide) ?_
    refine r_aload_n h 0 dX10_factOf_81 rfl rfl ?_
    obtain ⟨k13, hf⟩ := hf
    refine g1617 h dX10_factOf_82 k13 ?_
    exact r_ireturn h hq dX10_factOf_85 ⟨_, rfl, hf⟩
  have hf := ite_f c12 hf
  by_cases c14 : a1 = 5
  · have hf := ite_t c14 hf
    refine r_tableIn (off := 85) (tgt := 86) h dX10_factOf_1 (by rw [c14]; decide) (by rw [c14]; decide) (by rw [c14]; rfl) (by decide) ?_
    refine r_aload_n h 0 dX10_factOf_86 rfl rfl ?_
    obtain ⟨k15, hf⟩ := hf
    refine g1618 h dX10_factOf_87 k15 ?_
    exact r_ireturn h hq dX10_factOf_90 ⟨_, rfl, hf⟩
  have hf := ite_f c14 hf
  by_cases c16 : a1 = 6
  · have hf := ite_t c16 hf
    refine r_tableIn (off := 90) (tgt := 91) h dX10_factOf_1 (by rw [c16]; decide) (by rw [c16]; decide) (by rw [c16]; rfl) (by decide) ?_
    refine r_aload_n h 0 dX10_factOf_91 rfl rfl ?_
    obtain ⟨k17, hf⟩ := hf
    refine g1619 h dX10_factOf_92 k17 ?_
    exact r_ireturn h hq dX10_factOf_95 ⟨_, rfl, hf⟩
  have hf := ite_f c16 hf
  by_cases c18 : a1 = 7
  · have hf := ite_t c18 hf
    refine r_tableIn (off := 95) (tgt := 96) h dX10_factOf_1 (by rw [c18]; decide) (by rw [c18]; decide) (by rw [c18]; rfl) (by decide) ?_
    refine r_aload_n h 0 dX10_factOf_96 rfl rfl ?_
    obtain ⟨k19, hf⟩ := hf
    refine g1620 h dX10_factOf_97 k19 ?_
    exact r_ireturn h hq dX10_factOf_100 ⟨_, rfl, hf⟩
  have hf := ite_f c18 hf
  by_cases c20 : a1 = 8
  · have hf := ite_t c20 hf
    refine r_tableIn (off := 100) (tgt := 101) h dX10_factOf_1 (by rw [c20]; decide) (by rw [c20]; decide) (by rw [c20]; rfl) (by decide) ?_
    refine r_aload_n h 0 dX10_factOf_101 rfl rfl ?_
    obtain ⟨k21, hf⟩ := hf
    refine g1614 h dX10_factOf_102 k21 ?_
    refine r_if_eq (tgt := 121) h dX10_factOf_105 (by decide) (fun c22 => ?_) (fun c22 => ?_)
    · have hf := ite_t c22 hf
      refine r_iconst (v := 1) h dX10_factOf_121 (by decide) ?_
      refine r_goto (tgt := 126) h dX10_factOf_122 (by decide) ?_
      exact r_ireturn h hq dX10_factOf_126 ⟨_, rfl, hf⟩
    · have hf := ite_f c22 hf
      refine r_aload_n h 0 dX10_factOf_108 rfl rfl ?_
      refine g1614 h dX10_factOf_109 k21 ?_
      refine r_aload_n h 0 dX10_factOf_112 rfl rfl ?_
      refine c1820 hl h dX10_factOf_113 k21 hf (Nat.le_of_ble_eq_true rfl) (by decide) (by decide) (fun x24 M23 hf => ?_)
      refine r_iconst (v := 1) h dX10_factOf_116 (by decide) ?_
      refine r_isub h dX10_factOf_117 ?_
      refine r_icmp_ne (tgt := 125) h dX10_factOf_118 (by decide) (fun c25 => ?_) (fun c25 => ?_)
      · have hf := ite_f c25 hf
        refine r_iconst (v := 0) h dX10_factOf_125 (by decide) ?_
        exact r_ireturn h hq dX10_factOf_126 ⟨_, rfl, hf⟩
      · have hf := ite_t c25 hf
        refine r_iconst (v := 1) h dX10_factOf_121 (by decide) ?_
        refine r_goto (tgt := 126) h dX10_factOf_122 (by decide) ?_
        exact r_ireturn h hq dX10_factOf_126 ⟨_, rfl, hf⟩
  have hf := ite_f c20 hf
  by_cases c26 : a1 = 9
  · have hf := ite_t c26 hf
    refine r_tableIn (off := 126) (tgt := 127) h dX10_factOf_1 (by rw [c26]; decide) (by rw [c26]; decide) (by rw [c26]; rfl) (by decide) ?_
    refine r_aload_n h 0 dX10_factOf_127 rfl rfl ?_
    obtain ⟨k27, hf⟩ := hf
    refine g1614 h dX10_factOf_128 k27 ?_
    refine r_aload_n h 0 dX10_factOf_131 rfl rfl ?_
    obtain ⟨b28, e29, hf⟩ := hf
    refine g1598 h dX10_factOf_132 k27 e29 ?_
    refine r_bipush (v := 12) h dX10_factOf_135 (by decide) ?_
    obtain ⟨j30, hf⟩ := hf
    refine r_iaload h dX10_factOf_137 j30 ?_
    refine r_icmp_ge (tgt := 145) h dX10_factOf_138 (by decide) (fun c31 => ?_) (fun c31 => ?_)
    · have hf := ite_t c31 hf
      refine r_iconst (v := 0) h dX10_factOf_145 (by decide) ?_
      exact r_ireturn h hq dX10_factOf_146 ⟨_, rfl, hf⟩
    · have hf := ite_f c31 hf
      refine r_iconst (v := 1) h dX10_factOf_141 (by decide) ?_
      refine r_goto (tgt := 146) h dX10_factOf_142 (by decide) ?_
      exact r_ireturn h hq dX10_factOf_146 ⟨_, rfl, hf⟩
  have hf := ite_f c26 hf
  refine r_tableOut (tgt := 147) h dX10_factOf_1 (gSw0_10 c1 c3 c5 c7 c12 c14 c16 c18 c20 c26) (by decide) ?_
  refine r_iload_n h 2 dX10_factOf_147 rfl rfl ?_
  exact r_ireturn h hq dX10_factOf_148 ⟨_, rfl, hf⟩
theorem c1983 {l : Launch} {G : gG} {X : gX} {cc : ByteArray} {nL F L bc bs pc : Nat} {M : gM} {lv : List (Nat × Value)} {rest : List Value} {a0 : Nat} {a1 : Int32} {a2 : Int32} {K : Int32 → gM → Prop} (hl : l.stackTraces = false) (h : hX l G X cc nL "GlacierMailModel" F L) (d : decode cc pc = .ok (.invokevirtual 324, 3)) (hk : kd M a0 = some (.inl 10)) (hf : f_X10_factOf a0 a1 a2 M K) (hst : (rest.map fun v => v.category).sum ≤ 8) (hF : 2 ≤ F) (hL : 42 ≤ L) (kk : ∀ x M1, K x M1 → V l G X bc bs M1 (pc + 3) lv (.int x :: rest)) : V l G X bc bs M pc lv (.int a2 :: .int a1 :: .ref a0 :: rest) := r_callV (n := 2) (As := [.int a1, .int a2]) h (m_X10_factOf hl hf) 10 rfl hk rfl ⟨by decide, by decide, by decide +kernel⟩ d q1983 q1985 qs99 q147 q1986 rfl rfl hst hF hL (Nat.zero_le _) (Nat.zero_le _) (kI_go kk) kN_go
def f_X10_holdsLine (a0 : Nat) (a1 : Int32) (M : gM) (K : Int32 → gM → Prop) : Prop :=
  ∀ P20 : Nat → Int32 → Int32 → Int32 → gM → Prop,
  ∀ P218 : Nat → Int32 → Int32 → Int32 → Int32 → Int32 → Int32 → Int32 → gM → Prop,
  (∀ (v0 : Nat) (v2 : Int32) (v3 : Int32) (v4 : Int32) (M : gM), (kd M v0 = some (.inl 10) ∧ ∃ b6, rv M v0 1 = some b6 ∧ inA M b6 0 (v3 + 3) ∧ if (iv M b6 (ix (v3 + 3))) ≤ v4 then if v2 = 0 then K 1 M else ∃ b11, rv M v0 16 = some b11 ∧ inA M b11 0 0 ∧ if (iv M b11 (ix 0)) = 1 then K 1 M else K 0 M else ∃ b15, rv M v0 1 = some b15 ∧ inA M b15 0 ((444 : Int32) + ((2 : Int32) * v4)) ∧ if 10 < (iv M b15 (ix ((444 : Int32) + ((2 : Int32) * v4)))) then if (iv M b15 (ix ((444 : Int32) + ((2 : Int32) * v4)))) = 14 then ∃ b33, rv M v0 16 = some b33 ∧ ∃ b35, rv M v0 16 = some b35 ∧ inA M b35 0 (v2 - 1) ∧ inA M b33 0 (v2 - 1) ∧ ∀ M39, M39 = sI M b33 (ix (v2 - 1)) ((1 : Int32) - (iv M b35 (ix (v2 - 1)))) → P20 v0 v2 v3 (v4 + 1) M39 else ∃ b20, rv M v0 16 = some b20 ∧ inA M b20 0 ((v2 + (-1)) - 1) ∧ ∃ b23, rv M v0 16 = some b23 ∧ inA M b23 0 (v2 + (-1)) ∧ if (iv M b15 (ix ((444 : Int32) + ((2 : Int32) * v4)))) = 12 then if (iv M b23 (ix (v2 + (-1)))) ≤ (iv M b20 (ix ((v2 + (-1)) - 1))) then P218 v0 (v2 + (-1)) v3 v4 (iv M b15 (ix ((444 : Int32) + ((2 : Int32) * v4)))) (iv M b20 (ix ((v2 + (-1)) - 1))) (iv M b23 (ix (v2 + (-1)))) 0 M else P218 v0 (v2 + (-1)) v3 v4 (iv M b15 (ix ((444 : Int32) + ((2 : Int32) * v4)))) (iv M b20 (ix ((v2 + (-1)) - 1))) (iv M b23 (ix (v2 + (-1)))) 1 M else if (iv M b15 (ix ((444 : Int32) + ((2 : Int32) * v4)))) = 13 then if (iv M b20 (ix ((v2 + (-1)) - 1))) ≤ (iv M b23 (ix (v2 + (-1)))) then P218 v0 (v2 + (-1)) v3 v4 (iv M b15 (ix ((444 : Int32) + ((2 : Int32) * v4)))) (iv M b20 (ix ((v2 + (-1)) - 1))) (iv M b23 (ix (v2 + (-1)))) 0 M else P218 v0 (v2 + (-1)) v3 v4 (iv M b15 (ix ((444 : Int32) + ((2 : Int32) * v4)))) (iv M b20 (ix ((v2 + (-1)) - 1))) (iv M b23 (ix (v2 + (-1)))) 1 M else if (iv M b15 (ix ((444 : Int32) + ((2 : Int32) * v4)))) = 15 then if ((iv M b20 (ix ((v2 + (-1)) - 1))) + (iv M b23 (ix (v2 + (-1))))) = 2 then P218 v0 (v2 + (-1)) v3 v4 (iv M b15 (ix ((444 : Int32) + ((2 : Int32) * v4)))) (iv M b20 (ix ((v2 + (-1)) - 1))) (iv M b23 (ix (v2 + (-1)))) 1 M else P218 v0 (v2 + (-1)) v3 v4 (iv M b15 (ix ((444 : Int32) + ((2 : Int32) * v4)))) (iv M b20 (ix ((v2 + (-1)) - 1))) (iv M b23 (ix (v2 + (-1)))) 0 M else if ((iv M b20 (ix ((v2 + (-1)) - 1))) + (iv M b23 (ix (v2 + (-1))))) ≤ 0 then P218 v0 (v2 + (-1)) v3 v4 (iv M b15 (ix ((444 : Int32) + ((2 : Int32) * v4)))) (iv M b20 (ix ((v2 + (-1)) - 1))) (iv M b23 (ix (v2 + (-1)))) 0 M else P218 v0 (v2 + (-1)) v3 v4 (iv M b15 (ix ((444 : Int32) + ((2 : Int32) * v4)))) (iv M b20 (ix ((v2 + (-1)) - 1))) (iv M b23 (ix (v2 + (-1)))) 1 M else ∃ b40, rv M v0 16 = some b40 ∧ ∃ b42, rv M v0 1 = some b42 ∧ inA M b42 0 (((444 : Int32) + ((2 : Int32) * v4)) + 1) ∧ f_X10_factOf v0 (iv M b15 (ix ((444 : Int32) + ((2 : Int32) * v4)))) (iv M b42 (ix (((444 : Int32) + ((2 : Int32) * v4)) + 1))) M (fun x46 M45 => inA M45 b40 0 v2 ∧ ∀ M48, M48 = sI M45 b40 (ix v2) x46 → P20 v0 (v2 + 1) v3 (v4 + 1) M48)) → P20 v0 v2 v3 v4 M) →
  (∀ (v0 : Nat) (v2 : Int32) (v3 : Int32) (v4 : Int32) (v5 : Int32) (v6 : Int32) (v7 : Int32) (s0 : Int32) (M : gM), (kd M v0 = some (.inl 10) ∧ ∃ b50, rv M v0 16 = some b50 ∧ if v5 = 11 then inA M b50 0 (v2 - 1) ∧ ∀ M59, M59 = sI M b50 (ix (v2 - 1)) (v6 + v7) → P20 v0 v2 v3 (v4 + 1) M59 else if s0 = 0 then inA M b50 0 (v2 - 1) ∧ ∀ M55, M55 = sI M b50 (ix (v2 - 1)) 0 → P20 v0 v2 v3 (v4 + 1) M55 else inA M b50 0 (v2 - 1) ∧ ∀ M57, M57 = sI M b50 (ix (v2 - 1)) 1 → P20 v0 v2 v3 (v4 + 1) M57) → P218 v0 v2 v3 v4 v5 v6 v7 s0 M) →
  kd M a0 = some (.inl 10) ∧ ∃ b2, rv M a0 1 = some b2 ∧ inA M b2 0 (((396 : Int32) + ((4 : Int32) * a1)) + 2) ∧ P20 a0 0 ((396 : Int32) + ((4 : Int32) * a1)) (iv M b2 (ix (((396 : Int32) + ((4 : Int32) * a1)) + 2))) M
set_option maxHeartbeats 4000000 in
theorem m_X10_holdsLine {l : Launch} (hl : l.stackTraces = false) {G : gG} {a0 : Nat} {a1 : Int32} {M : gM} {K : Int32 → gM → Prop} (hf : f_X10_holdsLine a0 a1 M K) : gMet l G yX10_holdsLine (ws_ yX10_holdsLine cX10_holdsLine 9 (some Jvm.ClassFile.FieldType.boolean)) ({ frames := 2, cells := 0, slots := 0, locals := 42 }) M [.ref a0, .int a1] (kI K) kN := by
  refine gm_of hl (ret := (some Jvm.ClassFile.FieldType.boolean)) rfl (Nat.le_of_ble_eq_true rfl) (fun X h hq => ?_)
  have h : hX l G X cX10_holdsLine 9 "GlacierMailModel" 2 42 := h
  have hf := hf
  show V l G X 0 0 M 0 [(0, .ref a0), (1, .int a1)] []
  have hf := hf
    (fun v0 v2 v3 v4 M => V l G X 0 0 M 20 [(0, .ref v0), (2, .int v2), (3, .int v3), (4, .int v4)] [])
    (fun v0 v2 v3 v4 v5 v6 v7 s0 M => V l G X 0 0 M 218 [(0, .ref v0), (2, .int v2), (3, .int v3), (4, .int v4), (5, .int v5), (6, .int v6), (7, .int v7)] [.int s0])
    (by
      intro v0 v2 v3 v4 M hf
      show V l G X 0 0 M 20 [(0, .ref v0), (2, .int v2), (3, .int v3), (4, .int v4)] []
      refine r_iload h 3 dX10_holdsLine_20 rfl ?_
      refine r_aload_n h 0 dX10_holdsLine_22 rfl rfl ?_
      obtain ⟨k5, hf⟩ := hf
      obtain ⟨b6, e7, hf⟩ := hf
      refine g1598 h dX10_holdsLine_23 k5 e7 ?_
      refine r_iload_n h 2 dX10_holdsLine_26 rfl rfl ?_
      refine r_iconst (v := 3) h dX10_holdsLine_27 (by decide) ?_
      refine r_iadd h dX10_holdsLine_28 ?_
      obtain ⟨j8, hf⟩ := hf
      refine r_iaload h dX10_holdsLine_29 j8 ?_
      refine r_icmp_ge (tgt := 259) h dX10_holdsLine_30 (by decide) (fun c9 => ?_) (fun c9 => ?_)
      · have hf := ite_t c9 hf
        refine r_iload_n h 1 dX10_holdsLine_259 rfl rfl ?_
        refine r_if_eq (tgt := 273) h dX10_holdsLine_260 (by decide) (fun c10 => ?_) (fun c10 => ?_)
        · have hf := ite_t c10 hf
          refine r_iconst (v := 1) h dX10_holdsLine_273 (by decide) ?_
          refine r_goto (tgt := 278) h dX10_holdsLine_274 (by decide) ?_
          exact r_zreturn h hq dX10_holdsLine_278 (by decide) ⟨_, rfl, hf⟩
        · have hf := ite_f c10 hf
          refine r_aload_n h 0 dX10_holdsLine_263 rfl rfl ?_
          obtain ⟨b11, e12, hf⟩ := hf
          refine g1613 h dX10_holdsLine_264 k5 e12 ?_
          refine r_iconst (v := 0) h dX10_holdsLine_267 (by decide) ?_
          obtain ⟨j13, hf⟩ := hf
          refine r_iaload h dX10_holdsLine_268 j13 ?_
          refine r_iconst (v := 1) h dX10_holdsLine_269 (by decide) ?_
          refine r_icmp_ne (tgt := 277) h dX10_holdsLine_270 (by decide) (fun c14 => ?_) (fun c14 => ?_)
          · have hf := ite_f c14 hf
            refine r_iconst (v := 0) h dX10_holdsLine_277 (by decide) ?_
            exact r_zreturn h hq dX10_holdsLine_278 (by decide) ⟨_, rfl, hf⟩
          · have hf := ite_t c14 hf
            refine r_iconst (v := 1) h dX10_holdsLine_273 (by decide) ?_
            refine r_goto (tgt := 278) h dX10_holdsLine_274 (by decide) ?_
            exact r_zreturn h hq dX10_holdsLine_278 (by decide) ⟨_, rfl, hf⟩
      · have hf := ite_f c9 hf
        refine r_aload_n h 0 dX10_holdsLine_33 rfl rfl ?_
        obtain ⟨b15, e16, hf⟩ := hf
        refine g1598 h dX10_holdsLine_34 k5 e16 ?_
        refine r_sipush (v := 444) h dX10_holdsLine_37 (by decide) ?_
        refine r_iconst (v := 2) h dX10_holdsLine_40 (by decide) ?_
        refine r_iload h 3 dX10_holdsLine_41 rfl ?_
        refine r_imul h dX10_holdsLine_43 ?_
        refine r_iadd h dX10_holdsLine_44 ?_
        obtain ⟨j17, hf⟩ := hf
        refine r_iaload h dX10_holdsLine_45 j17 ?_
        refine r_istore (lv' := [(5, .int (iv M b15 (ix ((444 : Int32) + ((2 : Int32) * v4))))), (0, .ref v0), (2, .int v2), (3, .int v3), (4, .int v4)]) h dX10_holdsLine_46 (by decide) rfl ?_
        refine r_iload h 0 dX10_holdsLine_48 rfl ?_
        refine r_bipush (v := 10) h dX10_holdsLine_50 (by decide) ?_
        refine r_icmp_gt (tgt := 88) h dX10_holdsLine_52 (by decide) (fun c18 => ?_) (fun c18 => ?_)
        · have hf := ite_t c18 hf
          refine r_iload h 0 dX10_holdsLine_88 rfl ?_
          refine r_bipush (v := 14) h dX10_holdsLine_90 (by decide) ?_
          refine r_icmp_ne (tgt := 116) h dX10_holdsLine_92 (by decide) (fun c19 => ?_) (fun c19 => ?_)
          · have hf := ite_f c19 hf
            refine r_iinc (v := v2 + (-1)) (lv' := [(2, .int (v2 + (-1))), (5, .int (iv M b15 (ix ((444 : Int32) + ((2 : Int32) * v4))))), (0, .ref v0), (3, .int v3), (4, .int v4)]) h 2 dX10_holdsLine_116 rfl rfl (by decide) rfl ?_
            refine r_aload_n h 2 dX10_holdsLine_119 rfl rfl ?_
            obtain ⟨b20, e21, hf⟩ := hf
            refine g1613 h dX10_holdsLine_120 k5 e21 ?_
            refine r_iload_n h 0 dX10_holdsLine_123 rfl rfl ?_
            refine r_iconst (v := 1) h dX10_holdsLine_124 (by decide) ?_
            refine r_isub h dX10_holdsLine_125 ?_
            obtain ⟨j22, hf⟩ := hf
            refine r_iaload h dX10_holdsLine_126 j22 ?_
            refine r_istore (lv' := [(6, .int (iv M b20 (ix ((v2 + (-1)) - 1)))), (2, .int (v2 + (-1))), (5, .int (iv M b15 (ix ((444 : Int32) + ((2 : Int32) * v4))))), (0, .ref v0), (3, .int v3), (4, .int v4)]) h dX10_holdsLine_127 (by decide) rfl ?_
            refine r_aload_n h 3 dX10_holdsLine_129 rfl rfl ?_
            obtain ⟨b23, e24, hf⟩ := hf
            refine g1613 h dX10_holdsLine_130 k5 e24 ?_
            refine r_iload_n h 1 dX10_holdsLine_133 rfl rfl ?_
            obtain ⟨j25, hf⟩ := hf
            refine r_iaload h dX10_holdsLine_134 j25 ?_
            refine r_istore (lv' := [(7, .int (iv M b23 (ix (v2 + (-1))))), (6, .int (iv M b20 (ix ((v2 + (-1)) - 1)))), (2, .int (v2 + (-1))), (5, .int (iv M b15 (ix ((444 : Int32) + ((2 : Int32) * v4))))), (0, .ref v0), (3, .int v3), (4, .int v4)]) h dX10_holdsLine_135 (by decide) rfl ?_
            refine r_iload h 3 dX10_holdsLine_137 rfl ?_
            refine r_bipush (v := 12) h dX10_holdsLine_139 (by decide) ?_
            refine r_icmp_ne (tgt := 159) h dX10_holdsLine_141 (by decide) (fun c26 => ?_) (fun c26 => ?_)
            · have hf := ite_f c26 hf
              refine r_iload h 3 dX10_holdsLine_159 rfl ?_
              refine r_bipush (v := 13) h dX10_holdsLine_161 (by decide) ?_
              refine r_icmp_ne (tgt := 181) h dX10_holdsLine_163 (by decide) (fun c27 => ?_) (fun c27 => ?_)
              · have hf := ite_f c27 hf
                refine r_iload h 3 dX10_holdsLine_181 rfl ?_
                refine r_bipush (v := 15) h dX10_holdsLine_183 (by decide) ?_
                refine r_icmp_ne (tgt := 205) h dX10_holdsLine_185 (by decide) (fun c28 => ?_) (fun c28 => ?_)
                · have hf := ite_f c28 hf
                  refine r_iload h 1 dX10_holdsLine_205 rfl ?_
                  refine r_iload h 0 dX10_holdsLine_207 rfl ?_
                  refine r_iadd h dX10_holdsLine_209 ?_
                  refine r_if_le (tgt := 217) h dX10_holdsLine_210 (by decide) (fun c29 => ?_) (fun c29 => ?_)
                  · have hf := ite_t c29 hf
                    refine r_iconst (v := 0) h dX10_holdsLine_217 (by decide) ?_
                    exact V.sub [4, 2, 5, 6, 3, 1, 0] rfl hf
                  · have hf := ite_f c29 hf
                    refine r_iconst (v := 1) h dX10_holdsLine_213 (by decide) ?_
                    refine r_goto (tgt := 218) h dX10_holdsLine_214 (by decide) ?_
                    exact V.sub [4, 2, 5, 6, 3, 1, 0] rfl hf
                · have hf := ite_t c28 hf
                  refine r_iload h 1 dX10_holdsLine_188 rfl ?_
                  refine r_iload h 0 dX10_holdsLine_190 rfl ?_
                  refine r_iadd h dX10_holdsLine_192 ?_
                  refine r_iconst (v := 2) h dX10_holdsLine_193 (by decide) ?_
                  refine r_icmp_ne (tgt := 201) h dX10_holdsLine_194 (by decide) (fun c30 => ?_) (fun c30 => ?_)
                  · have hf := ite_f c30 hf
                    refine r_iconst (v := 0) h dX10_holdsLine_201 (by decide) ?_
                    refine r_goto (tgt := 218) h dX10_holdsLine_202 (by decide) ?_
                    exact V.sub [4, 2, 5, 6, 3, 1, 0] rfl hf
                  · have hf := ite_t c30 hf
                    refine r_iconst (v := 1) h dX10_holdsLine_197 (by decide) ?_
                    refine r_goto (tgt := 218) h dX10_holdsLine_198 (by decide) ?_
                    exact V.sub [4, 2, 5, 6, 3, 1, 0] rfl hf
              · have hf := ite_t c27 hf
                refine r_iload h 1 dX10_holdsLine_166 rfl ?_
                refine r_iload h 0 dX10_holdsLine_168 rfl ?_
                refine r_icmp_le (tgt := 177) h dX10_holdsLine_170 (by decide) (fun c31 => ?_) (fun c31 => ?_)
                · have hf := ite_t c31 hf
                  refine r_iconst (v := 0) h dX10_holdsLine_177 (by decide) ?_
                  refine r_goto (tgt := 218) h dX10_holdsLine_178 (by decide) ?_
                  exact V.sub [4, 2, 5, 6, 3, 1, 0] rfl hf
                · have hf := ite_f c31 hf
                  refine r_iconst (v := 1) h dX10_holdsLine_173 (by decide) ?_
                  refine r_goto (tgt := 218) h dX10_holdsLine_174 (by decide) ?_
                  exact V.sub [4, 2, 5, 6, 3, 1, 0] rfl hf
            · have hf := ite_t c26 hf
              refine r_iload h 1 dX10_holdsLine_144 rfl ?_
              refine r_iload h 0 dX10_holdsLine_146 rfl ?_
              refine r_icmp_ge (tgt := 155) h dX10_holdsLine_148 (by decide) (fun c32 => ?_) (fun c32 => ?_)
              · have hf := ite_t c32 hf
                refine r_iconst (v := 0) h dX10_holdsLine_155 (by decide) ?_
                refine r_goto (tgt := 218) h dX10_holdsLine_156 (by decide) ?_
                exact V.sub [4, 2, 5, 6, 3, 1, 0] rfl hf
              · have hf := ite_f c32 hf
                refine r_iconst (v := 1) h dX10_holdsLine_151 (by decide) ?_
                refine r_goto (tgt := 218) h dX10_holdsLine_152 (by decide) ?_
                exact V.sub [4, 2, 5, 6, 3, 1, 0] rfl hf
          · have hf := ite_t c19 hf
            refine r_aload_n h 1 dX10_holdsLine_95 rfl rfl ?_
            obtain ⟨b33, e34, hf⟩ := hf
            refine g1613 h dX10_holdsLine_96 k5 e34 ?_
            refine r_iload_n h 2 dX10_holdsLine_99 rfl rfl ?_
            refine r_iconst (v := 1) h dX10_holdsLine_100 (by decide) ?_
            refine r_isub h dX10_holdsLine_101 ?_
            refine r_iconst (v := 1) h dX10_holdsLine_102 (by decide) ?_
            refine r_aload_n h 1 dX10_holdsLine_103 rfl rfl ?_
            obtain ⟨b35, e36, hf⟩ := hf
            refine g1613 h dX10_holdsLine_104 k5 e36 ?_
            refine r_iload_n h 2 dX10_holdsLine_107 rfl rfl ?_
            refine r_iconst (v := 1) h dX10_holdsLine_108 (by decide) ?_
            refine r_isub h dX10_holdsLine_109 ?_
            obtain ⟨j37, hf⟩ := hf
            refine r_iaload h dX10_holdsLine_110 j37 ?_
            refine r_isub h dX10_holdsLine_111 ?_
            obtain ⟨j38, hf⟩ := hf
            refine r_iastore h dX10_holdsLine_112 j38 ?_
            refine r_goW (fun M39 eM39 => ?_)
            have hf := hf M39 eM39
            refine r_goto (tgt := 253) h dX10_holdsLine_113 (by decide) ?_
            refine r_iinc (v := v4 + 1) (lv' := [(4, .int (v4 + 1)), (5, .int (iv M b15 (ix ((444 : Int32) + ((2 : Int32) * v4))))), (0, .ref v0), (2, .int v2), (3, .int v3)]) h 4 dX10_holdsLine_253 rfl rfl (by decide) rfl ?_
            refine r_goto (tgt := 20) h dX10_holdsLine_256 (by decide) ?_
            exact V.sub [2, 3, 4, 0] rfl hf
        · have hf := ite_f c18 hf
          refine r_aload_n h 1 dX10_holdsLine_55 rfl rfl ?_
          obtain ⟨b40, e41, hf⟩ := hf
          refine g1613 h dX10_holdsLine_56 k5 e41 ?_
          refine r_iload_n h 2 dX10_holdsLine_59 rfl rfl ?_
          refine r_aload_n h 1 dX10_holdsLine_60 rfl rfl ?_
          refine r_iload h 0 dX10_holdsLine_61 rfl ?_
          refine r_aload_n h 1 dX10_holdsLine_63 rfl rfl ?_
          obtain ⟨b42, e43, hf⟩ := hf
          refine g1598 h dX10_holdsLine_64 k5 e43 ?_
          refine r_sipush (v := 444) h dX10_holdsLine_67 (by decide) ?_
          refine r_iconst (v := 2) h dX10_holdsLine_70 (by decide) ?_
          refine r_iload h 4 dX10_holdsLine_71 rfl ?_
          refine r_imul h dX10_holdsLine_73 ?_
          refine r_iadd h dX10_holdsLine_74 ?_
          refine r_iconst (v := 1) h dX10_holdsLine_75 (by decide) ?_
          refine r_iadd h dX10_holdsLine_76 ?_
          obtain ⟨j44, hf⟩ := hf
          refine r_iaload h dX10_holdsLine_77 j44 ?_
          refine c1983 hl h dX10_holdsLine_78 k5 hf (Nat.le_of_ble_eq_true rfl) (by decide) (by decide) (fun x46 M45 hf => ?_)
          obtain ⟨j47, hf⟩ := hf
          refine r_iastore h dX10_holdsLine_81 j47 ?_
          refine r_goW (fun M48 eM48 => ?_)
          have hf := hf M48 eM48
          refine r_iinc (v := v2 + 1) (lv' := [(2, .int (v2 + 1)), (5, .int (iv M b15 (ix ((444 : Int32) + ((2 : Int32) * v4))))), (0, .ref v0), (3, .int v3), (4, .int v4)]) h 2 dX10_holdsLine_82 rfl rfl (by decide) rfl ?_
          refine r_goto (tgt := 253) h dX10_holdsLine_85 (by decide) ?_
          refine r_iinc (v := v4 + 1) (lv' := [(4, .int (v4 + 1)), (2, .int (v2 + 1)), (5, .int (iv M b15 (ix ((444 : Int32) + ((2 : Int32) * v4))))), (0, .ref v0), (3, .int v3)]) h 4 dX10_holdsLine_253 rfl rfl (by decide) rfl ?_
          refine r_goto (tgt := 20) h dX10_holdsLine_256 (by decide) ?_
          exact V.sub [3, 1, 4, 0] rfl hf)
    (by
      intro v0 v2 v3 v4 v5 v6 v7 s0 M hf
      show V l G X 0 0 M 218 [(0, .ref v0), (2, .int v2), (3, .int v3), (4, .int v4), (5, .int v5), (6, .int v6), (7, .int v7)] [.int s0]
      refine r_istore (lv' := [(8, .int s0), (0, .ref v0), (2, .int v2), (3, .int v3), (4, .int v4), (5, .int v5), (6, .int v6), (7, .int v7)]) h dX10_holdsLine_218 (by decide) rfl ?_
      refine r_aload_n h 1 dX10_holdsLine_220 rfl rfl ?_
      obtain ⟨k49, hf⟩ := hf
      obtain ⟨b50, e51, hf⟩ := hf
      refine g1613 h dX10_holdsLine_221 k49 e51 ?_
      refine r_iload_n h 2 dX10_holdsLine_224 rfl rfl ?_
      refine r_iconst (v := 1) h dX10_holdsLine_225 (by decide) ?_
      refine r_isub h dX10_holdsLine_226 ?_
      refine r_iload h 5 dX10_holdsLine_227 rfl ?_
      refine r_bipush (v := 11) h dX10_holdsLine_229 (by decide) ?_
      refine r_icmp_ne (tgt := 242) h dX10_holdsLine_231 (by decide) (fun c52 => ?_) (fun c52 => ?_)
      · have hf := ite_f c52 hf
        refine r_iload h 0 dX10_holdsLine_242 rfl ?_
        refine r_if_eq (tgt := 251) h dX10_holdsLine_244 (by decide) (fun c53 => ?_) (fun c53 => ?_)
        · have hf := ite_t c53 hf
          refine r_iconst (v := 0) h dX10_holdsLine_251 (by decide) ?_
          obtain ⟨j54, hf⟩ := hf
          refine r_iastore h dX10_holdsLine_252 j54 ?_
          refine r_goW (fun M55 eM55 => ?_)
          have hf := hf M55 eM55
          refine r_iinc (v := v4 + 1) (lv' := [(4, .int (v4 + 1)), (8, .int s0), (0, .ref v0), (2, .int v2), (3, .int v3), (5, .int v5), (6, .int v6), (7, .int v7)]) h 4 dX10_holdsLine_253 rfl rfl (by decide) rfl ?_
          refine r_goto (tgt := 20) h dX10_holdsLine_256 (by decide) ?_
          exact V.sub [2, 3, 4, 0] rfl hf
        · have hf := ite_f c53 hf
          refine r_iconst (v := 1) h dX10_holdsLine_247 (by decide) ?_
          refine r_goto (tgt := 252) h dX10_holdsLine_248 (by decide) ?_
          obtain ⟨j56, hf⟩ := hf
          refine r_iastore h dX10_holdsLine_252 j56 ?_
          refine r_goW (fun M57 eM57 => ?_)
          have hf := hf M57 eM57
          refine r_iinc (v := v4 + 1) (lv' := [(4, .int (v4 + 1)), (8, .int s0), (0, .ref v0), (2, .int v2), (3, .int v3), (5, .int v5), (6, .int v6), (7, .int v7)]) h 4 dX10_holdsLine_253 rfl rfl (by decide) rfl ?_
          refine r_goto (tgt := 20) h dX10_holdsLine_256 (by decide) ?_
          exact V.sub [2, 3, 4, 0] rfl hf
      · have hf := ite_t c52 hf
        refine r_iload h 6 dX10_holdsLine_234 rfl ?_
        refine r_iload h 7 dX10_holdsLine_236 rfl ?_
        refine r_iadd h dX10_holdsLine_238 ?_
        refine r_goto (tgt := 252) h dX10_holdsLine_239 (by decide) ?_
        obtain ⟨j58, hf⟩ := hf
        refine r_iastore h dX10_holdsLine_252 j58 ?_
        refine r_goW (fun M59 eM59 => ?_)
        have hf := hf M59 eM59
        refine r_iinc (v := v4 + 1) (lv' := [(4, .int (v4 + 1)), (8, .int s0), (0, .ref v0), (2, .int v2), (3, .int v3), (5, .int v5), (6, .int v6), (7, .int v7)]) h 4 dX10_holdsLine_253 rfl rfl (by decide) rfl ?_
        refine r_goto (tgt := 20) h dX10_holdsLine_256 (by decide) ?_
        exact V.sub [2, 3, 4, 0] rfl hf)
  refine r_iconst (v := 0) h dX10_holdsLine_0 (by decide) ?_
  refine r_istore_n (lv' := [(2, .int 0), (0, .ref a0), (1, .int a1)]) h dX10_holdsLine_1 rfl (by decide) rfl ?_
  refine r_sipush (v := 396) h dX10_holdsLine_2 (by decide) ?_
  refine r_iconst (v := 4) h dX10_holdsLine_5 (by decide) ?_
  refine r_iload_n h 2 dX10_holdsLine_6 rfl rfl ?_
  refine r_imul h dX10_holdsLine_7 ?_
  refine r_iadd h dX10_holdsLine_8 ?_
  refine r_istore_n (lv' := [(3, .int ((396 : Int32) + ((4 : Int32) * a1))), (2, .int 0), (0, .ref a0), (1, .int a1)]) h dX10_holdsLine_9 rfl (by decide) rfl ?_
  refine r_aload_n h 2 dX10_holdsLine_10 rfl rfl ?_
  obtain ⟨k1, hf⟩ := hf
  obtain ⟨b2, e3, hf⟩ := hf
  refine g1598 h dX10_holdsLine_11 k1 e3 ?_
  refine r_iload_n h 0 dX10_holdsLine_14 rfl rfl ?_
  refine r_iconst (v := 2) h dX10_holdsLine_15 (by decide) ?_
  refine r_iadd h dX10_holdsLine_16 ?_
  obtain ⟨j4, hf⟩ := hf
  refine r_iaload h dX10_holdsLine_17 j4 ?_
  refine r_istore (lv' := [(4, .int (iv M b2 (ix (((396 : Int32) + ((4 : Int32) * a1)) + 2)))), (3, .int ((396 : Int32) + ((4 : Int32) * a1))), (2, .int 0), (0, .ref a0), (1, .int a1)]) h dX10_holdsLine_18 (by decide) rfl ?_
  exact V.sub [3, 2, 1, 0] rfl hf
theorem c1979 {l : Launch} {G : gG} {X : gX} {cc : ByteArray} {nL F L bc bs pc : Nat} {M : gM} {lv : List (Nat × Value)} {rest : List Value} {a0 : Nat} {a1 : Int32} {K : Int32 → gM → Prop} (hl : l.stackTraces = false) (h : hX l G X cc nL "GlacierMailModel" F L) (d : decode cc pc = .ok (.invokevirtual 327, 3)) (hk : kd M a0 = some (.inl 10)) (hf : f_X10_holdsLine a0 a1 M K) (hst : (rest.map fun v => v.category).sum ≤ 8) (hF : 3 ≤ F) (hL : 70 ≤ L) (kk : ∀ x M1, K x M1 → V l G X bc bs M1 (pc + 3) lv (.int x :: rest)) : V l G X bc bs M pc lv (.int a1 :: .ref a0 :: rest) := r_callV (n := 1) (As := [.int a1]) h (m_X10_holdsLine hl hf) 10 rfl hk rfl ⟨by decide, by decide, by decide +kernel⟩ d q1979 q1981 qs98 q147 q1982 rfl rfl hst hF hL (Nat.zero_le _) (Nat.zero_le _) (kI_go kk) kN_go
def f_X10_sumOf (a0 : Nat) (a1 : Int32) (M : gM) (K : Int32 → gM → Prop) : Prop :=
  ∀ P4 : Nat → Int32 → Int32 → Int32 → gM → Prop,
  (∀ (v0 : Nat) (v1 : Int32) (v2 : Int32) (v3 : Int32) (M : gM), (kd M v0 = some (.inl 10) ∧ ∃ b2, rv M v0 1 = some b2 ∧ inA M b2 0 8 ∧ if (iv M b2 (ix 8)) = 1 then ∃ b6, rv M v0 1 = some b6 ∧ inA M b6 0 395 ∧ if (iv M b6 (ix 395)) ≤ v3 then K v2 M else ∃ b10, rv M v0 1 = some b10 ∧ inA M b10 0 ((396 : Int32) + ((4 : Int32) * v3)) ∧ if (iv M b10 (ix ((396 : Int32) + ((4 : Int32) * v3)))) = v1 then f_X10_holdsLine v0 v3 M (fun x15 M14 => if x15 = 0 then P4 v0 v1 (v2 + 0) (v3 + 1) M14 else kd M14 v0 = some (.inl 10) ∧ ∃ b18, rv M14 v0 1 = some b18 ∧ inA M14 b18 0 (((396 : Int32) + ((4 : Int32) * v3)) + 1) ∧ ∀ x21, x21 = v2 + (iv M14 b18 (ix (((396 : Int32) + ((4 : Int32) * v3)) + 1))) → P4 v0 v1 x21 (v3 + 1) M14) else P4 v0 v1 (v2 + 0) (v3 + 1) M else K v2 M) → P4 v0 v1 v2 v3 M) →
  P4 a0 a1 0 0 M
set_option maxHeartbeats 4000000 in
theorem m_X10_sumOf {l : Launch} (hl : l.stackTraces = false) {G : gG} {a0 : Nat} {a1 : Int32} {M : gM} {K : Int32 → gM → Prop} (hf : f_X10_sumOf a0 a1 M K) : gMet l G yX10_sumOf (ws_ yX10_sumOf cX10_sumOf 4 (some Jvm.ClassFile.FieldType.int)) ({ frames := 3, cells := 0, slots := 0, locals := 70 }) M [.ref a0, .int a1] (kI K) kN := by
  refine gm_of hl (ret := (some Jvm.ClassFile.FieldType.int)) rfl (Nat.le_of_ble_eq_true rfl) (fun X h hq => ?_)
  have h : hX l G X cX10_sumOf 4 "GlacierMailModel" 3 70 := h
  have hf := hf
  show V l G X 0 0 M 0 [(0, .ref a0), (1, .int a1)] []
  have hf := hf
    (fun v0 v1 v2 v3 M => V l G X 0 0 M 4 [(0, .ref v0), (1, .int v1), (2, .int v2), (3, .int v3)] [])
    (by
      intro v0 v1 v2 v3 M hf
      show V l G X 0 0 M 4 [(0, .ref v0), (1, .int v1), (2, .int v2), (3, .int v3)] []
      refine r_aload_n h 0 dX10_sumOf_4 rfl rfl ?_
      obtain ⟨k1, hf⟩ := hf
      obtain ⟨b2, e3, hf⟩ := hf
      refine g1598 h dX10_sumOf_5 k1 e3 ?_
      refine r_bipush (v := 8) h dX10_sumOf_8 (by decide) ?_
      obtain ⟨j4, hf⟩ := hf
      refine r_iaload h dX10_sumOf_10 j4 ?_
      refine r_iconst (v := 1) h dX10_sumOf_11 (by decide) ?_
      refine r_icmp_ne (tgt := 78) h dX10_sumOf_12 (by decide) (fun c5 => ?_) (fun c5 => ?_)
      · have hf := ite_f c5 hf
        refine r_iload_n h 2 dX10_sumOf_78 rfl rfl ?_
        exact r_ireturn h hq dX10_sumOf_79 ⟨_, rfl, hf⟩
      · have hf := ite_t c5 hf
        refine r_iload_n h 3 dX10_sumOf_15 rfl rfl ?_
        refine r_aload_n h 0 dX10_sumOf_16 rfl rfl ?_
        obtain ⟨b6, e7, hf⟩ := hf
        refine g1598 h dX10_sumOf_17 k1 e7 ?_
        refine r_sipush (v := 395) h dX10_sumOf_20 (by decide) ?_
        obtain ⟨j8, hf⟩ := hf
        refine r_iaload h dX10_sumOf_23 j8 ?_
        refine r_icmp_ge (tgt := 78) h dX10_sumOf_24 (by decide) (fun c9 => ?_) (fun c9 => ?_)
        · have hf := ite_t c9 hf
          refine r_iload_n h 2 dX10_sumOf_78 rfl rfl ?_
          exact r_ireturn h hq dX10_sumOf_79 ⟨_, rfl, hf⟩
        · have hf := ite_f c9 hf
          refine r_iload_n h 2 dX10_sumOf_27 rfl rfl ?_
          refine r_aload_n h 0 dX10_sumOf_28 rfl rfl ?_
          obtain ⟨b10, e11, hf⟩ := hf
          refine g1598 h dX10_sumOf_29 k1 e11 ?_
          refine r_sipush (v := 396) h dX10_sumOf_32 (by decide) ?_
          refine r_iconst (v := 4) h dX10_sumOf_35 (by decide) ?_
          refine r_iload_n h 3 dX10_sumOf_36 rfl rfl ?_
          refine r_imul h dX10_sumOf_37 ?_
          refine r_iadd h dX10_sumOf_38 ?_
          obtain ⟨j12, hf⟩ := hf
          refine r_iaload h dX10_sumOf_39 j12 ?_
          refine r_iload_n h 1 dX10_sumOf_40 rfl rfl ?_
          refine r_icmp_ne (tgt := 69) h dX10_sumOf_41 (by decide) (fun c13 => ?_) (fun c13 => ?_)
          · have hf := ite_f c13 hf
            refine r_iconst (v := 0) h dX10_sumOf_69 (by decide) ?_
            refine r_iadd h dX10_sumOf_70 ?_
            refine r_istore_n (lv' := [(2, .int (v2 + 0)), (0, .ref v0), (1, .int v1), (3, .int v3)]) h dX10_sumOf_71 rfl (by decide) rfl ?_
            refine r_iinc (v := v3 + 1) (lv' := [(3, .int (v3 + 1)), (2, .int (v2 + 0)), (0, .ref v0), (1, .int v1)]) h 3 dX10_sumOf_72 rfl rfl (by decide) rfl ?_
            refine r_goto (tgt := 4) h dX10_sumOf_75 (by decide) ?_
            exact V.sub [2, 3, 1, 0] rfl hf
          · have hf := ite_t c13 hf
            refine r_aload_n h 0 dX10_sumOf_44 rfl rfl ?_
            refine r_iload_n h 3 dX10_sumOf_45 rfl rfl ?_
            refine c1979 hl h dX10_sumOf_46 k1 hf (Nat.le_of_ble_eq_true rfl) (by decide) (by decide) (fun x15 M14 hf => ?_)
            refine r_if_eq (tgt := 69) h dX10_sumOf_49 (by decide) (fun c16 => ?_) (fun c16 => ?_)
            · have hf := ite_t c16 hf
              refine r_iconst (v := 0) h dX10_sumOf_69 (by decide) ?_
              refine r_iadd h dX10_sumOf_70 ?_
              refine r_istore_n (lv' := [(2, .int (v2 + 0)), (0, .ref v0), (1, .int v1), (3, .int v3)]) h dX10_sumOf_71 rfl (by decide) rfl ?_
              refine r_iinc (v := v3 + 1) (lv' := [(3, .int (v3 + 1)), (2, .int (v2 + 0)), (0, .ref v0), (1, .int v1)]) h 3 dX10_sumOf_72 rfl rfl (by decide) rfl ?_
              refine r_goto (tgt := 4) h dX10_sumOf_75 (by decide) ?_
              exact V.sub [2, 3, 1, 0] rfl hf
            · have hf := ite_f c16 hf
              refine r_aload_n h 0 dX10_sumOf_52 rfl rfl ?_
              obtain ⟨k17, hf⟩ := hf
              obtain ⟨b18, e19, hf⟩ := hf
              refine g1598 h dX10_sumOf_53 k17 e19 ?_
              refine r_sipush (v := 396) h dX10_sumOf_56 (by decide) ?_
              refine r_iconst (v := 4) h dX10_sumOf_59 (by decide) ?_
              refine r_iload_n h 3 dX10_sumOf_60 rfl rfl ?_
              refine r_imul h dX10_sumOf_61 ?_
              refine r_iadd h dX10_sumOf_62 ?_
              refine r_iconst (v := 1) h dX10_sumOf_63 (by decide) ?_
              refine r_iadd h dX10_sumOf_64 ?_
              obtain ⟨j20, hf⟩ := hf
              refine r_iaload h dX10_sumOf_65 j20 ?_
              refine r_goto (tgt := 70) h dX10_sumOf_66 (by decide) ?_
              refine r_iadd h dX10_sumOf_70 ?_
              refine r_nam (fun x21 ex21 => ?_)
              have hf := hf x21 ex21
              refine r_istore_n (lv' := [(2, .int x21), (0, .ref v0), (1, .int v1), (3, .int v3)]) h dX10_sumOf_71 rfl (by decide) rfl ?_
              refine r_iinc (v := v3 + 1) (lv' := [(3, .int (v3 + 1)), (2, .int x21), (0, .ref v0), (1, .int v1)]) h 3 dX10_sumOf_72 rfl rfl (by decide) rfl ?_
              refine r_goto (tgt := 4) h dX10_sumOf_75 (by decide) ?_
              exact V.sub [2, 3, 1, 0] rfl hf)
  refine r_iconst (v := 0) h dX10_sumOf_0 (by decide) ?_
  refine r_istore_n (lv' := [(2, .int 0), (0, .ref a0), (1, .int a1)]) h dX10_sumOf_1 rfl (by decide) rfl ?_
  refine r_iconst (v := 0) h dX10_sumOf_2 (by decide) ?_
  refine r_istore_n (lv' := [(3, .int 0), (2, .int 0), (0, .ref a0), (1, .int a1)]) h dX10_sumOf_3 rfl (by decide) rfl ?_
  exact V.sub [2, 3, 1, 0] rfl hf
theorem c1975 {l : Launch} {G : gG} {X : gX} {cc : ByteArray} {nL F L bc bs pc : Nat} {M : gM} {lv : List (Nat × Value)} {rest : List Value} {a0 : Nat} {a1 : Int32} {K : Int32 → gM → Prop} (hl : l.stackTraces = false) (h : hX l G X cc nL "GlacierMailModel" F L) (d : decode cc pc = .ok (.invokevirtual 341, 3)) (hk : kd M a0 = some (.inl 10)) (hf : f_X10_sumOf a0 a1 M K) (hst : (rest.map fun v => v.category).sum ≤ 8) (hF : 4 ≤ F) (hL : 93 ≤ L) (kk : ∀ x M1, K x M1 → V l G X bc bs M1 (pc + 3) lv (.int x :: rest)) : V l G X bc bs M pc lv (.int a1 :: .ref a0 :: rest) := r_callV (n := 1) (As := [.int a1]) h (m_X10_sumOf hl hf) 10 rfl hk rfl ⟨by decide, by decide, by decide +kernel⟩ d q1975 q1977 qs97 q147 q1978 rfl rfl hst hF hL (Nat.zero_le _) (Nat.zero_le _) (kI_go kk) kN_go
def f_X10_flowAt (a0 : Nat) (a1 : Int32) (a2 : Int32) (a3 : Int32) (M : gM) (K : Int32 → gM → Prop) : Prop :=
  kd M a0 = some (.inl 10) ∧ f_X10_turnsTo a0 a1 M (fun M2 => kd M2 a0 = some (.inl 10) ∧ ∃ b4, rv M2 a0 25 = some b4 ∧ inA M2 b4 1 ((a2 * 300) + a3) ∧ if (iv M2 b4 (ix ((a2 * 300) + a3))) ≤ 0 then ∀ M8, M8 = sI M2 a0 17 a1 → kd M8 a0 = some (.inl 10) ∧ ∀ M10, M10 = sI M8 a0 18 a2 → kd M10 a0 = some (.inl 10) ∧ ∀ M12, M12 = sI M10 a0 19 a3 → kd M12 a0 = some (.inl 10) ∧ f_X10_speedAt a0 a1 a2 M12 (fun x15 M14 => kd M14 a0 = some (.inl 10) ∧ ∀ M17, M17 = sI M14 a0 20 x15 → kd M17 a0 = some (.inl 10) ∧ ∀ M19, M19 = sI M17 a0 21 0 → kd M19 a0 = some (.inl 10) ∧ ∀ M21, M21 = sI M19 a0 22 0 → kd M21 a0 = some (.inl 10) ∧ ∀ M23, M23 = sI M21 a0 23 0 → kd M23 a0 = some (.inl 10) ∧ f_X10_sumOf a0 0 M23 (fun x26 M25 => kd M25 a0 = some (.inl 10) ∧ f_X10_sumOf a0 1 M25 (fun x29 M28 => ∀ x30, x30 = (if (((iv M23 a0 20) + x26) - x29) < 30 then (((iv M23 a0 20) + x26) - x29) else 30) → ∀ x31, x31 = (if 0 < x30 then x30 else 0) → kd M28 a0 = some (.inl 10) ∧ ∃ b33, rv M28 a0 25 = some b33 ∧ inA M28 b33 1 ((a2 * 300) + a3) ∧ ∀ M36, M36 = sI M28 b33 (ix ((a2 * 300) + a3)) ((x31 + 1).toInt8.toInt32).toInt8.toInt32 → K x31 M36))) else ∃ b37, rv M2 a0 25 = some b37 ∧ inA M2 b37 1 ((a2 * 300) + a3) ∧ K ((iv M2 b37 (ix ((a2 * 300) + a3))) - 1) M2)
set_option maxHeartbeats 4000000 in
theorem m_X10_flowAt {l : Launch} (hl : l.stackTraces = false) {G : gG} {a0 : Nat} {a1 : Int32} {a2 : Int32} {a3 : Int32} {M : gM} {K : Int32 → gM → Prop} (hf : f_X10_flowAt a0 a1 a2 a3 M K) : gMet l G yX10_flowAt (ws_ yX10_flowAt cX10_flowAt 6 (some Jvm.ClassFile.FieldType.int)) ({ frames := 4, cells := 0, slots := 0, locals := 93 }) M [.ref a0, .int a1, .int a2, .int a3] (kI K) kN := by
  refine gm_of hl (ret := (some Jvm.ClassFile.FieldType.int)) rfl (Nat.le_of_ble_eq_true rfl) (fun X h hq => ?_)
  have h : hX l G X cX10_flowAt 6 "GlacierMailModel" 4 93 := h
  have hf := hf
  show V l G X 0 0 M 0 [(0, .ref a0), (1, .int a1), (2, .int a2), (3, .int a3)] []
  unfold f_X10_flowAt at hf
  refine r_aload_n h 0 dX10_flowAt_0 rfl rfl ?_
  refine r_iload_n h 1 dX10_flowAt_1 rfl rfl ?_
  obtain ⟨k1, hf⟩ := hf
  refine c1971 hl h dX10_flowAt_2 k1 hf (Nat.le_of_ble_eq_true rfl) (by decide) (by decide) (fun M2 hf => ?_)
  refine r_iload_n h 2 dX10_flowAt_5 rfl rfl ?_
  refine r_sipush (v := 300) h dX10_flowAt_6 (by decide) ?_
  refine r_imul h dX10_flowAt_9 ?_
  refine r_iload_n h 3 dX10_flowAt_10 rfl rfl ?_
  refine r_iadd h dX10_flowAt_11 ?_
  refine r_istore (lv' := [(4, .int ((a2 * 300) + a3)), (0, .ref a0), (1, .int a1), (2, .int a2), (3, .int a3)]) h dX10_flowAt_12 (by decide) rfl ?_
  refine r_aload_n h 1 dX10_flowAt_14 rfl rfl ?_
  obtain ⟨k3, hf⟩ := hf
  obtain ⟨b4, e5, hf⟩ := hf
  refine g1622 h dX10_flowAt_15 k3 e5 ?_
  refine r_iload h 0 dX10_flowAt_18 rfl ?_
  obtain ⟨j6, hf⟩ := hf
  refine r_baload h dX10_flowAt_20 j6 ?_
  refine r_if_le (tgt := 34) h dX10_flowAt_21 (by decide) (fun c7 => ?_) (fun c7 => ?_)
  · have hf := ite_t c7 hf
    refine r_aload_n h 1 dX10_flowAt_34 rfl rfl ?_
    refine r_iload_n h 2 dX10_flowAt_35 rfl rfl ?_
    refine p1614 h dX10_flowAt_36 k3 ?_
    refine r_goW (fun M8 eM8 => ?_)
    have hf := hf M8 eM8
    refine r_aload_n h 1 dX10_flowAt_39 rfl rfl ?_
    refine r_iload_n h 3 dX10_flowAt_40 rfl rfl ?_
    obtain ⟨k9, hf⟩ := hf
    refine p1615 h dX10_flowAt_41 k9 ?_
    refine r_goW (fun M10 eM10 => ?_)
    have hf := hf M10 eM10
    refine r_aload_n h 1 dX10_flowAt_44 rfl rfl ?_
    refine r_iload_n h 4 dX10_flowAt_45 rfl rfl ?_
    obtain ⟨k11, hf⟩ := hf
    refine p1616 h dX10_flowAt_46 k11 ?_
    refine r_goW (fun M12 eM12 => ?_)
    have hf := hf M12 eM12
    refine r_aload_n h 1 dX10_flowAt_49 rfl rfl ?_
    refine r_aload_n h 1 dX10_flowAt_50 rfl rfl ?_
    refine r_iload_n h 2 dX10_flowAt_51 rfl rfl ?_
    refine r_iload_n h 3 dX10_flowAt_52 rfl rfl ?_
    obtain ⟨k13, hf⟩ := hf
    refine c1959 hl h dX10_flowAt_53 k13 hf (Nat.le_of_ble_eq_true rfl) (by decide) (by decide) (fun x15 M14 hf => ?_)
    obtain ⟨k16, hf⟩ := hf
    refine p1617 h dX10_flowAt_56 k16 ?_
    refine r_goW (fun M17 eM17 => ?_)
    have hf := hf M17 eM17
    refine r_aload_n h 1 dX10_flowAt_59 rfl rfl ?_
    refine r_iconst (v := 0) h dX10_flowAt_60 (by decide) ?_
    obtain ⟨k18, hf⟩ := hf
    refine p1618 h dX10_flowAt_61 k18 ?_
    refine r_goW (fun M19 eM19 => ?_)
    have hf := hf M19 eM19
    refine r_aload_n h 1 dX10_flowAt_64 rfl rfl ?_
    refine r_iconst (v := 0) h dX10_flowAt_65 (by decide) ?_
    obtain ⟨k20, hf⟩ := hf
    refine p1619 h dX10_flowAt_66 k20 ?_
    refine r_goW (fun M21 eM21 => ?_)
    have hf := hf M21 eM21
    refine r_aload_n h 1 dX10_flowAt_69 rfl rfl ?_
    refine r_iconst (v := 0) h dX10_flowAt_70 (by decide) ?_
    obtain ⟨k22, hf⟩ := hf
    refine p1620 h dX10_flowAt_71 k22 ?_
    refine r_goW (fun M23 eM23 => ?_)
    have hf := hf M23 eM23
    refine r_iconst (v := 0) h dX10_flowAt_74 (by decide) ?_
    refine r_bipush (v := 30) h dX10_flowAt_75 (by decide) ?_
    refine r_aload_n h 1 dX10_flowAt_77 rfl rfl ?_
    obtain ⟨k24, hf⟩ := hf
    refine g1617 h dX10_flowAt_78 k24 ?_
    refine r_aload_n h 1 dX10_flowAt_81 rfl rfl ?_
    refine r_iconst (v := 0) h dX10_flowAt_82 (by decide) ?_
    refine c1975 hl h dX10_flowAt_83 k24 hf (Nat.le_of_ble_eq_true rfl) (by decide) (by decide) (fun x26 M25 hf => ?_)
    refine r_iadd h dX10_flowAt_86 ?_
    refine r_aload_n h 1 dX10_flowAt_87 rfl rfl ?_
    refine r_iconst (v := 1) h dX10_flowAt_88 (by decide) ?_
    obtain ⟨k27, hf⟩ := hf
    refine c1975 hl h dX10_flowAt_89 k27 hf (Nat.le_of_ble_eq_true rfl) (by decide) (by decide) (fun x29 M28 hf => ?_)
    refine r_isub h dX10_flowAt_92 ?_
    refine r_mmin h q1987 q729 q165 q730 dX10_flowAt_93 (by decide) (by decide) (Nat.le_of_ble_eq_true rfl) ?_
    refine r_nam (fun x30 ex30 => ?_)
    have hf := hf x30 ex30
    refine r_mmax h q1988 q732 q165 q733 dX10_flowAt_96 (by decide) (by decide) (Nat.le_of_ble_eq_true rfl) ?_
    refine r_nam (fun x31 ex31 => ?_)
    have hf := hf x31 ex31
    refine r_istore (lv' := [(5, .int x31), (4, .int ((a2 * 300) + a3)), (0, .ref a0), (1, .int a1), (2, .int a2), (3, .int a3)]) h dX10_flowAt_99 (by decide) rfl ?_
    refine r_aload_n h 2 dX10_flowAt_101 rfl rfl ?_
    obtain ⟨k32, hf⟩ := hf
    obtain ⟨b33, e34, hf⟩ := hf
    refine g1622 h dX10_flowAt_102 k32 e34 ?_
    refine r_iload h 1 dX10_flowAt_105 rfl ?_
    refine r_iload h 0 dX10_flowAt_107 rfl ?_
    refine r_iconst (v := 1) h dX10_flowAt_109 (by decide) ?_
    refine r_iadd h dX10_flowAt_110 ?_
    refine r_i2b h dX10_flowAt_111 ?_
    obtain ⟨j35, hf⟩ := hf
    refine r_bastore h dX10_flowAt_112 j35 ?_
    refine r_goW (fun M36 eM36 => ?_)
    have hf := hf M36 eM36
    refine r_iload h 0 dX10_flowAt_113 rfl ?_
    exact r_ireturn h hq dX10_flowAt_115 ⟨_, rfl, hf⟩
  · have hf := ite_f c7 hf
    refine r_aload_n h 1 dX10_flowAt_24 rfl rfl ?_
    obtain ⟨b37, e38, hf⟩ := hf
    refine g1622 h dX10_flowAt_25 k3 e38 ?_
    refine r_iload h 0 dX10_flowAt_28 rfl ?_
    obtain ⟨j39, hf⟩ := hf
    refine r_baload h dX10_flowAt_30 j39 ?_
    refine r_iconst (v := 1) h dX10_flowAt_31 (by decide) ?_
    refine r_isub h dX10_flowAt_32 ?_
    exact r_ireturn h hq dX10_flowAt_33 ⟨_, rfl, hf⟩
theorem c1967 {l : Launch} {G : gG} {X : gX} {cc : ByteArray} {nL F L bc bs pc : Nat} {M : gM} {lv : List (Nat × Value)} {rest : List Value} {a0 : Nat} {a1 : Int32} {a2 : Int32} {a3 : Int32} {K : Int32 → gM → Prop} (hl : l.stackTraces = false) (h : hX l G X cc nL "GlacierMailModel" F L) (d : decode cc pc = .ok (.invokevirtual 362, 3)) (hk : kd M a0 = some (.inl 10)) (hf : f_X10_flowAt a0 a1 a2 a3 M K) (hst : (rest.map fun v => v.category).sum ≤ 8) (hF : 5 ≤ F) (hL : 118 ≤ L) (kk : ∀ x M1, K x M1 → V l G X bc bs M1 (pc + 3) lv (.int x :: rest)) : V l G X bc bs M pc lv (.int a3 :: .int a2 :: .int a1 :: .ref a0 :: rest) := r_callV (n := 3) (As := [.int a1, .int a2, .int a3]) h (m_X10_flowAt hl hf) 10 rfl hk rfl ⟨by decide, by decide, by decide +kernel⟩ d q1967 q1969 qs95 q147 q1970 rfl rfl hst hF hL (Nat.zero_le _) (Nat.zero_le _) (kI_go kk) kN_go
def f_X10_flow (a0 : Nat) (a1 : Int32) (a2 : Int32) (a3 : Int32) (M : gM) (K : Int32 → gM → Prop) : Prop :=
  ∀ P27 : Nat → Int32 → Int32 → Int32 → Int32 → Nat → gM → Prop,
  (∀ (v0 : Nat) (v1 : Int32) (v2 : Int32) (v3 : Int32) (s0 : Int32) (s1 : Nat) (M : gM), (kd M s1 = some (.inl 10) ∧ f_X10_throwsIf s1 s0 1 M (fun x13 M12 => if x13 = 0 then f_X10_noYear v3 M12 (fun x16 M15 => kd M15 v0 = some (.inl 10) ∧ f_X10_throwsIf v0 x16 2 M15 (fun x19 M18 => if x19 = 0 then kd M18 v0 = some (.inl 10) ∧ f_X10_flowAt v0 v1 v2 v3 M18 (fun x23 M22 => K x23 M22) else K 0 M18)) else K 0 M12)) → P27 v0 v1 v2 v3 s0 s1 M) →
  kd M a0 = some (.inl 10) ∧ ∀ M2, M2 = sI M a0 0 0 → kd M2 a0 = some (.inl 10) ∧ f_X10_noLane a0 a1 M2 (fun x5 M4 => if x5 = 0 then kd M4 a0 = some (.inl 10) ∧ f_X10_noRow a0 a2 M4 (fun x9 M8 => if x9 = 0 then P27 a0 a1 a2 a3 0 a0 M8 else P27 a0 a1 a2 a3 1 a0 M8) else P27 a0 a1 a2 a3 1 a0 M4)
set_option maxHeartbeats 4000000 in
theorem m_X10_flow {l : Launch} (hl : l.stackTraces = false) {G : gG} {a0 : Nat} {a1 : Int32} {a2 : Int32} {a3 : Int32} {M : gM} {K : Int32 → gM → Prop} (hf : f_X10_flow a0 a1 a2 a3 M K) : gMet l G yX10_flow (ws_ yX10_flow cX10_flow 4 (some Jvm.ClassFile.FieldType.int)) ({ frames := 5, cells := 0, slots := 0, locals := 118 }) M [.ref a0, .int a1, .int a2, .int a3] (kI K) kN := by
  refine gm_of hl (ret := (some Jvm.ClassFile.FieldType.int)) rfl (Nat.le_of_ble_eq_true rfl) (fun X h hq => ?_)
  have h : hX l G X cX10_flow 4 "GlacierMailModel" 5 118 := h
  have hf := hf
  show V l G X 0 0 M 0 [(0, .ref a0), (1, .int a1), (2, .int a2), (3, .int a3)] []
  have hf := hf
    (fun v0 v1 v2 v3 s0 s1 M => V l G X 0 0 M 27 [(0, .ref v0), (1, .int v1), (2, .int v2), (3, .int v3)] [.int s0, .ref s1])
    (by
      intro v0 v1 v2 v3 s0 s1 M hf
      show V l G X 0 0 M 27 [(0, .ref v0), (1, .int v1), (2, .int v2), (3, .int v3)] [.int s0, .ref s1]
      refine r_iconst (v := 1) h dX10_flow_27 (by decide) ?_
      obtain ⟨k11, hf⟩ := hf
      refine c1929 hl h dX10_flow_28 k11 hf (Nat.le_of_ble_eq_true rfl) (by decide) (by decide) (fun x13 M12 hf => ?_)
      refine r_if_ne (tgt := 46) h dX10_flow_31 (by decide) (fun c14 => ?_) (fun c14 => ?_)
      · have hf := ite_f c14 hf
        refine r_iconst (v := 0) h dX10_flow_46 (by decide) ?_
        refine r_goto (tgt := 57) h dX10_flow_47 (by decide) ?_
        exact r_ireturn h hq dX10_flow_57 ⟨_, rfl, hf⟩
      · have hf := ite_t c14 hf
        refine r_aload_n h 0 dX10_flow_34 rfl rfl ?_
        refine r_iload_n h 3 dX10_flow_35 rfl rfl ?_
        refine c1941 hl h dX10_flow_36 hf (Nat.le_of_ble_eq_true rfl) (by decide) (by decide) (fun x16 M15 hf => ?_)
        refine r_iconst (v := 2) h dX10_flow_39 (by decide) ?_
        obtain ⟨k17, hf⟩ := hf
        refine c1929 hl h dX10_flow_40 k17 hf (Nat.le_of_ble_eq_true rfl) (by decide) (by decide) (fun x19 M18 hf => ?_)
        refine r_if_eq (tgt := 50) h dX10_flow_43 (by decide) (fun c20 => ?_) (fun c20 => ?_)
        · have hf := ite_t c20 hf
          refine r_aload_n h 0 dX10_flow_50 rfl rfl ?_
          refine r_iload_n h 1 dX10_flow_51 rfl rfl ?_
          refine r_iload_n h 2 dX10_flow_52 rfl rfl ?_
          refine r_iload_n h 3 dX10_flow_53 rfl rfl ?_
          obtain ⟨k21, hf⟩ := hf
          refine c1967 hl h dX10_flow_54 k21 hf (Nat.le_of_ble_eq_true rfl) (by decide) (by decide) (fun x23 M22 hf => ?_)
          exact r_ireturn h hq dX10_flow_57 ⟨_, rfl, hf⟩
        · have hf := ite_f c20 hf
          refine r_iconst (v := 0) h dX10_flow_46 (by decide) ?_
          refine r_goto (tgt := 57) h dX10_flow_47 (by decide) ?_
          exact r_ireturn h hq dX10_flow_57 ⟨_, rfl, hf⟩)
  refine r_aload_n h 0 dX10_flow_0 rfl rfl ?_
  refine r_iconst (v := 0) h dX10_flow_1 (by decide) ?_
  obtain ⟨k1, hf⟩ := hf
  refine p1597 h dX10_flow_2 k1 ?_
  refine r_goW (fun M2 eM2 => ?_)
  have hf := hf M2 eM2
  refine r_aload_n h 0 dX10_flow_5 rfl rfl ?_
  refine r_aload_n h 0 dX10_flow_6 rfl rfl ?_
  refine r_iload_n h 1 dX10_flow_7 rfl rfl ?_
  obtain ⟨k3, hf⟩ := hf
  refine c1951 hl h dX10_flow_8 k3 hf (Nat.le_of_ble_eq_true rfl) (by decide) (by decide) (fun x5 M4 hf => ?_)
  refine r_if_ne (tgt := 22) h dX10_flow_11 (by decide) (fun c6 => ?_) (fun c6 => ?_)
  · have hf := ite_f c6 hf
    refine r_iconst (v := 1) h dX10_flow_22 (by decide) ?_
    refine r_goto (tgt := 27) h dX10_flow_23 (by decide) ?_
    exact V.sub [0, 1, 2, 3] rfl hf
  · have hf := ite_t c6 hf
    refine r_aload_n h 0 dX10_flow_14 rfl rfl ?_
    refine r_iload_n h 2 dX10_flow_15 rfl rfl ?_
    obtain ⟨k7, hf⟩ := hf
    refine c1955 hl h dX10_flow_16 k7 hf (Nat.le_of_ble_eq_true rfl) (by decide) (by decide) (fun x9 M8 hf => ?_)
    refine r_if_eq (tgt := 26) h dX10_flow_19 (by decide) (fun c10 => ?_) (fun c10 => ?_)
    · have hf := ite_t c10 hf
      refine r_iconst (v := 0) h dX10_flow_26 (by decide) ?_
      exact V.sub [0, 1, 2, 3] rfl hf
    · have hf := ite_f c10 hf
      refine r_iconst (v := 1) h dX10_flow_22 (by decide) ?_
      refine r_goto (tgt := 27) h dX10_flow_23 (by decide) ?_
      exact V.sub [0, 1, 2, 3] rfl hf
theorem c1963 {l : Launch} {G : gG} {X : gX} {cc : ByteArray} {nL F L bc bs pc : Nat} {M : gM} {lv : List (Nat × Value)} {rest : List Value} {a0 : Nat} {a1 : Int32} {a2 : Int32} {a3 : Int32} {K : Int32 → gM → Prop} (hl : l.stackTraces = false) (h : hX l G X cc nL "GlacierMailLaw" F L) (d : decode cc pc = .ok (.invokevirtual 176, 3)) (hk : kd M a0 = some (.inl 10)) (hf : f_X10_flow a0 a1 a2 a3 M K) (hst : (rest.map fun v => v.category).sum ≤ 8) (hF : 6 ≤ F) (hL : 141 ≤ L) (kk : ∀ x M1, K x M1 → V l G X bc bs M1 (pc + 3) lv (.int x :: rest)) : V l G X bc bs M pc lv (.int a3 :: .int a2 :: .int a1 :: .ref a0 :: rest) := r_callV (n := 3) (As := [.int a1, .int a2, .int a3]) h (m_X10_flow hl hf) 10 rfl hk rfl ⟨by decide, by decide, by decide +kernel⟩ d q1963 q1964 q1965 q147 q1966 rfl rfl hst hF hL (Nat.zero_le _) (Nat.zero_le _) (kI_go kk) kN_go
def f_X10_noPerson (a0 : Nat) (a1 : Int32) (M : gM) (K : Int32 → gM → Prop) : Prop :=
  kd M a0 = some (.inl 10) ∧ f_X10_people a0 M (fun x3 M2 => f_X10_in a1 0 (x3 - 1) M2 (fun x5 M4 => if x5 = 0 then K 1 M4 else K 0 M4))
set_option maxHeartbeats 4000000 in
theorem m_X10_noPerson {l : Launch} (hl : l.stackTraces = false) {G : gG} {a0 : Nat} {a1 : Int32} {M : gM} {K : Int32 → gM → Prop} (hf : f_X10_noPerson a0 a1 M K) : gMet l G yX10_noPerson (ws_ yX10_noPerson cX10_noPerson 2 (some Jvm.ClassFile.FieldType.boolean)) ({ frames := 1, cells := 0, slots := 0, locals := 22 }) M [.ref a0, .int a1] (kI K) kN := by
  refine gm_of hl (ret := (some Jvm.ClassFile.FieldType.boolean)) rfl (Nat.le_of_ble_eq_true rfl) (fun X h hq => ?_)
  have h : hX l G X cX10_noPerson 2 "GlacierMailModel" 1 22 := h
  have hf := hf
  show V l G X 0 0 M 0 [(0, .ref a0), (1, .int a1)] []
  unfold f_X10_noPerson at hf
  refine r_iload_n h 1 dX10_noPerson_0 rfl rfl ?_
  refine r_iconst (v := 0) h dX10_noPerson_1 (by decide) ?_
  refine r_aload_n h 0 dX10_noPerson_2 rfl rfl ?_
  obtain ⟨k1, hf⟩ := hf
  refine c1786 hl h dX10_noPerson_3 k1 hf (Nat.le_of_ble_eq_true rfl) (by decide) (by decide) (fun x3 M2 hf => ?_)
  refine r_iconst (v := 1) h dX10_noPerson_6 (by decide) ?_
  refine r_isub h dX10_noPerson_7 ?_
  refine c1944 hl h dX10_noPerson_8 hf (Nat.le_of_ble_eq_true rfl) (by decide) (by decide) (fun x5 M4 hf => ?_)
  refine r_if_ne (tgt := 18) h dX10_noPerson_11 (by decide) (fun c6 => ?_) (fun c6 => ?_)
  · have hf := ite_f c6 hf
    refine r_iconst (v := 0) h dX10_noPerson_18 (by decide) ?_
    exact r_zreturn h hq dX10_noPerson_19 (by decide) ⟨_, rfl, hf⟩
  · have hf := ite_t c6 hf
    refine r_iconst (v := 1) h dX10_noPerson_14 (by decide) ?_
    refine r_goto (tgt := 19) h dX10_noPerson_15 (by decide) ?_
    exact r_zreturn h hq dX10_noPerson_19 (by decide) ⟨_, rfl, hf⟩
theorem c1993 {l : Launch} {G : gG} {X : gX} {cc : ByteArray} {nL F L bc bs pc : Nat} {M : gM} {lv : List (Nat × Value)} {rest : List Value} {a0 : Nat} {a1 : Int32} {K : Int32 → gM → Prop} (hl : l.stackTraces = false) (h : hX l G X cc nL "GlacierMailModel" F L) (d : decode cc pc = .ok (.invokevirtual 393, 3)) (hk : kd M a0 = some (.inl 10)) (hf : f_X10_noPerson a0 a1 M K) (hst : (rest.map fun v => v.category).sum ≤ 8) (hF : 2 ≤ F) (hL : 43 ≤ L) (kk : ∀ x M1, K x M1 → V l G X bc bs M1 (pc + 3) lv (.int x :: rest)) : V l G X bc bs M pc lv (.int a1 :: .ref a0 :: rest) := r_callV (n := 1) (As := [.int a1]) h (m_X10_noPerson hl hf) 10 rfl hk rfl ⟨by decide, by decide, by decide +kernel⟩ d q1993 q1995 qs100 q147 q1996 rfl rfl hst hF hL (Nat.zero_le _) (Nat.zero_le _) (kI_go kk) kN_go
def f_X10_of (a0 : Nat) (a1 : Int32) (a2 : Int32) (M : gM) (K : Int32 → gM → Prop) : Prop :=
  kd M a0 = some (.inl 10) ∧ ∃ b2, rv M a0 1 = some b2 ∧ inA M b2 0 (((95 : Int32) + ((3 : Int32) * a1)) + a2) ∧ K (iv M b2 (ix (((95 : Int32) + ((3 : Int32) * a1)) + a2))) M
set_option maxHeartbeats 4000000 in
theorem m_X10_of {l : Launch} (hl : l.stackTraces = false) {G : gG} {a0 : Nat} {a1 : Int32} {a2 : Int32} {M : gM} {K : Int32 → gM → Prop} (hf : f_X10_of a0 a1 a2 M K) : gMet l G yX10_of (ws_ yX10_of cX10_of 3 (some Jvm.ClassFile.FieldType.int)) ({ frames := 0, cells := 0, slots := 0, locals := 0 }) M [.ref a0, .int a1, .int a2] (kI K) kN := by
  refine gm_of hl (ret := (some Jvm.ClassFile.FieldType.int)) rfl (Nat.le_of_ble_eq_true rfl) (fun X h hq => ?_)
  have h : hX l G X cX10_of 3 "GlacierMailModel" 0 0 := h
  have hf := hf
  show V l G X 0 0 M 0 [(0, .ref a0), (1, .int a1), (2, .int a2)] []
  unfold f_X10_of at hf
  refine r_aload_n h 0 dX10_of_0 rfl rfl ?_
  obtain ⟨k1, hf⟩ := hf
  obtain ⟨b2, e3, hf⟩ := hf
  refine g1598 h dX10_of_1 k1 e3 ?_
  refine r_bipush (v := 95) h dX10_of_4 (by decide) ?_
  refine r_iconst (v := 3) h dX10_of_6 (by decide) ?_
  refine r_iload_n h 1 dX10_of_7 rfl rfl ?_
  refine r_imul h dX10_of_8 ?_
  refine r_iadd h dX10_of_9 ?_
  refine r_iload_n h 2 dX10_of_10 rfl rfl ?_
  refine r_iadd h dX10_of_11 ?_
  obtain ⟨j4, hf⟩ := hf
  refine r_iaload h dX10_of_12 j4 ?_
  exact r_ireturn h hq dX10_of_13 ⟨_, rfl, hf⟩
theorem c1997 {l : Launch} {G : gG} {X : gX} {cc : ByteArray} {nL F L bc bs pc : Nat} {M : gM} {lv : List (Nat × Value)} {rest : List Value} {a0 : Nat} {a1 : Int32} {a2 : Int32} {K : Int32 → gM → Prop} (hl : l.stackTraces = false) (h : hX l G X cc nL "GlacierMailModel" F L) (d : decode cc pc = .ok (.invokevirtual 396, 3)) (hk : kd M a0 = some (.inl 10)) (hf : f_X10_of a0 a1 a2 M K) (hst : (rest.map fun v => v.category).sum ≤ 8) (hF : 1 ≤ F) (hL : 22 ≤ L) (kk : ∀ x M1, K x M1 → V l G X bc bs M1 (pc + 3) lv (.int x :: rest)) : V l G X bc bs M pc lv (.int a2 :: .int a1 :: .ref a0 :: rest) := r_callV (n := 2) (As := [.int a1, .int a2]) h (m_X10_of hl hf) 10 rfl hk rfl ⟨by decide, by decide, by decide +kernel⟩ d q1997 q1999 qs101 q147 q2000 rfl rfl hst hF hL (Nat.zero_le _) (Nat.zero_le _) (kI_go kk) kN_go
def f_X10_ofLetter (a0 : Nat) (a1 : Int32) (a2 : Int32) (M : gM) (K : Int32 → gM → Prop) : Prop :=
  kd M a0 = some (.inl 10) ∧ ∃ b2, rv M a0 1 = some b2 ∧ inA M b2 0 (((119 : Int32) + ((7 : Int32) * a1)) + a2) ∧ K (iv M b2 (ix (((119 : Int32) + ((7 : Int32) * a1)) + a2))) M
set_option maxHeartbeats 4000000 in
theorem m_X10_ofLetter {l : Launch} (hl : l.stackTraces = false) {G : gG} {a0 : Nat} {a1 : Int32} {a2 : Int32} {M : gM} {K : Int32 → gM → Prop} (hf : f_X10_ofLetter a0 a1 a2 M K) : gMet l G yX10_ofLetter (ws_ yX10_ofLetter cX10_ofLetter 3 (some Jvm.ClassFile.FieldType.int)) ({ frames := 0, cells := 0, slots := 0, locals := 0 }) M [.ref a0, .int a1, .int a2] (kI K) kN := by
  refine gm_of hl (ret := (some Jvm.ClassFile.FieldType.int)) rfl (Nat.le_of_ble_eq_true rfl) (fun X h hq => ?_)
  have h : hX l G X cX10_ofLetter 3 "GlacierMailModel" 0 0 := h
  have hf := hf
  show V l G X 0 0 M 0 [(0, .ref a0), (1, .int a1), (2, .int a2)] []
  unfold f_X10_ofLetter at hf
  refine r_aload_n h 0 dX10_ofLetter_0 rfl rfl ?_
  obtain ⟨k1, hf⟩ := hf
  obtain ⟨b2, e3, hf⟩ := hf
  refine g1598 h dX10_ofLetter_1 k1 e3 ?_
  refine r_bipush (v := 119) h dX10_ofLetter_4 (by decide) ?_
  refine r_bipush (v := 7) h dX10_ofLetter_6 (by decide) ?_
  refine r_iload_n h 1 dX10_ofLetter_8 rfl rfl ?_
  refine r_imul h dX10_ofLetter_9 ?_
  refine r_iadd h dX10_ofLetter_10 ?_
  refine r_iload_n h 2 dX10_ofLetter_11 rfl rfl ?_
  refine r_iadd h dX10_ofLetter_12 ?_
  obtain ⟨j4, hf⟩ := hf
  refine r_iaload h dX10_ofLetter_13 j4 ?_
  exact r_ireturn h hq dX10_ofLetter_14 ⟨_, rfl, hf⟩
theorem c2005 {l : Launch} {G : gG} {X : gX} {cc : ByteArray} {nL F L bc bs pc : Nat} {M : gM} {lv : List (Nat × Value)} {rest : List Value} {a0 : Nat} {a1 : Int32} {a2 : Int32} {K : Int32 → gM → Prop} (hl : l.stackTraces = false) (h : hX l G X cc nL "GlacierMailModel" F L) (d : decode cc pc = .ok (.invokevirtual 82, 3)) (hk : kd M a0 = some (.inl 10)) (hf : f_X10_ofLetter a0 a1 a2 M K) (hst : (rest.map fun v => v.category).sum ≤ 8) (hF : 1 ≤ F) (hL : 22 ≤ L) (kk : ∀ x M1, K x M1 → V l G X bc bs M1 (pc + 3) lv (.int x :: rest)) : V l G X bc bs M pc lv (.int a2 :: .int a1 :: .ref a0 :: rest) := r_callV (n := 2) (As := [.int a1, .int a2]) h (m_X10_ofLetter hl hf) 10 rfl hk rfl ⟨by decide, by decide, by decide +kernel⟩ d q2005 q2007 qs103 q147 q2008 rfl rfl hst hF hL (Nat.zero_le _) (Nat.zero_le _) (kI_go kk) kN_go
def f_X10_isRock (a0 : Nat) (a1 : Int32) (M : gM) (K : Int32 → gM → Prop) : Prop :=
  kd M a0 = some (.inl 10) ∧ f_X10_ofLetter a0 a1 0 M (fun x3 M2 => if 0 ≤ x3 then K 0 M2 else K 1 M2)
set_option maxHeartbeats 4000000 in
theorem m_X10_isRock {l : Launch} (hl : l.stackTraces = false) {G : gG} {a0 : Nat} {a1 : Int32} {M : gM} {K : Int32 → gM → Prop} (hf : f_X10_isRock a0 a1 M K) : gMet l G yX10_isRock (ws_ yX10_isRock cX10_isRock 2 (some Jvm.ClassFile.FieldType.boolean)) ({ frames := 1, cells := 0, slots := 0, locals := 22 }) M [.ref a0, .int a1] (kI K) kN := by
  refine gm_of hl (ret := (some Jvm.ClassFile.FieldType.boolean)) rfl (Nat.le_of_ble_eq_true rfl) (fun X h hq => ?_)
  have h : hX l G X cX10_isRock 2 "GlacierMailModel" 1 22 := h
  have hf := hf
  show V l G X 0 0 M 0 [(0, .ref a0), (1, .int a1)] []
  unfold f_X10_isRock at hf
  refine r_aload_n h 0 dX10_isRock_0 rfl rfl ?_
  refine r_iload_n h 1 dX10_isRock_1 rfl rfl ?_
  refine r_iconst (v := 0) h dX10_isRock_2 (by decide) ?_
  obtain ⟨k1, hf⟩ := hf
  refine c2005 hl h dX10_isRock_3 k1 hf (Nat.le_of_ble_eq_true rfl) (by decide) (by decide) (fun x3 M2 hf => ?_)
  refine r_if_ge (tgt := 13) h dX10_isRock_6 (by decide) (fun c4 => ?_) (fun c4 => ?_)
  · have hf := ite_t c4 hf
    refine r_iconst (v := 0) h dX10_isRock_13 (by decide) ?_
    exact r_zreturn h hq dX10_isRock_14 (by decide) ⟨_, rfl, hf⟩
  · have hf := ite_f c4 hf
    refine r_iconst (v := 1) h dX10_isRock_9 (by decide) ?_
    refine r_goto (tgt := 14) h dX10_isRock_10 (by decide) ?_
    exact r_zreturn h hq dX10_isRock_14 (by decide) ⟨_, rfl, hf⟩
theorem c2013 {l : Launch} {G : gG} {X : gX} {cc : ByteArray} {nL F L bc bs pc : Nat} {M : gM} {lv : List (Nat × Value)} {rest : List Value} {a0 : Nat} {a1 : Int32} {K : Int32 → gM → Prop} (hl : l.stackTraces = false) (h : hX l G X cc nL "GlacierMailModel" F L) (d : decode cc pc = .ok (.invokevirtual 374, 3)) (hk : kd M a0 = some (.inl 10)) (hf : f_X10_isRock a0 a1 M K) (hst : (rest.map fun v => v.category).sum ≤ 8) (hF : 2 ≤ F) (hL : 43 ≤ L) (kk : ∀ x M1, K x M1 → V l G X bc bs M1 (pc + 3) lv (.int x :: rest)) : V l G X bc bs M pc lv (.int a1 :: .ref a0 :: rest) := r_callV (n := 1) (As := [.int a1]) h (m_X10_isRock hl hf) 10 rfl hk rfl ⟨by decide, by decide, by decide +kernel⟩ d q2013 q2015 qs105 q147 q2016 rfl rfl hst hF hL (Nat.zero_le _) (Nat.zero_le _) (kI_go kk) kN_go
def f_X10_floods (a0 : Nat) (a1 : Int32) (a2 : Int32) (a3 : Int32) (M : gM) (K : Int32 → gM → Prop) : Prop :=
  ∀ P6 : Nat → Int32 → Int32 → Int32 → Int32 → gM → Prop,
  (∀ (v0 : Nat) (v2 : Int32) (v3 : Int32) (v4 : Int32) (v5 : Int32) (M : gM), (kd M v0 = some (.inl 10) ∧ ∃ b2, rv M v0 1 = some b2 ∧ inA M b2 0 5 ∧ if (iv M b2 (ix 5)) ≤ v5 then K v4 M else if v5 = v3 then P6 v0 v2 v3 v4 (v5 + 1) M else ∃ b7, rv M v0 1 = some b7 ∧ inA M b7 0 ((71 : Int32) + ((3 : Int32) * v5)) ∧ if (iv M b7 (ix ((71 : Int32) + ((3 : Int32) * v5)))) = v2 then ∃ b11, rv M v0 1 = some b11 ∧ inA M b11 0 (((71 : Int32) + ((3 : Int32) * v5)) + 1) ∧ if (iv M b11 (ix (((71 : Int32) + ((3 : Int32) * v5)) + 1))) ≤ v4 then ∃ b15, rv M v0 1 = some b15 ∧ inA M b15 0 (((71 : Int32) + ((3 : Int32) * v5)) + 2) ∧ ∀ x18, x18 = v4 + (iv M b15 (ix (((71 : Int32) + ((3 : Int32) * v5)) + 2))) → ∃ b19, rv M v0 1 = some b19 ∧ inA M b19 0 (((71 : Int32) + ((3 : Int32) * v5)) + 2) ∧ ∀ M22, M22 = sI M v0 30 ((iv M v0 30) + (iv M b19 (ix (((71 : Int32) + ((3 : Int32) * v5)) + 2)))) → P6 v0 v2 v3 x18 (v5 + 1) M22 else P6 v0 v2 v3 v4 (v5 + 1) M else P6 v0 v2 v3 v4 (v5 + 1) M) → P6 v0 v2 v3 v4 v5 M) →
  P6 a0 a2 a3 a1 0 M
set_option maxHeartbeats 4000000 in
theorem m_X10_floods {l : Launch} (hl : l.stackTraces = false) {G : gG} {a0 : Nat} {a1 : Int32} {a2 : Int32} {a3 : Int32} {M : gM} {K : Int32 → gM → Prop} (hf : f_X10_floods a0 a1 a2 a3 M K) : gMet l G yX10_floods (ws_ yX10_floods cX10_floods 7 (some Jvm.ClassFile.FieldType.int)) ({ frames := 0, cells := 0, slots := 0, locals := 0 }) M [.ref a0, .int a1, .int a2, .int a3] (kI K) kN := by
  refine gm_of hl (ret := (some Jvm.ClassFile.FieldType.int)) rfl (Nat.le_of_ble_eq_true rfl) (fun X h hq => ?_)
  have h : hX l G X cX10_floods 7 "GlacierMailModel" 0 0 := h
  have hf := hf
  show V l G X 0 0 M 0 [(0, .ref a0), (1, .int a1), (2, .int a2), (3, .int a3)] []
  have hf := hf
    (fun v0 v2 v3 v4 v5 M => V l G X 0 0 M 6 [(0, .ref v0), (2, .int v2), (3, .int v3), (4, .int v4), (5, .int v5)] [])
    (by
      intro v0 v2 v3 v4 v5 M hf
      show V l G X 0 0 M 6 [(0, .ref v0), (2, .int v2), (3, .int v3), (4, .int v4), (5, .int v5)] []
      refine r_iload h 4 dX10_floods_6 rfl ?_
      refine r_aload_n h 0 dX10_floods_8 rfl rfl ?_
      obtain ⟨k1, hf⟩ := hf
      obtain ⟨b2, e3, hf⟩ := hf
      refine g1598 h dX10_floods_9 k1 e3 ?_
      refine r_iconst (v := 5) h dX10_floods_12 (by decide) ?_
      obtain ⟨j4, hf⟩ := hf
      refine r_iaload h dX10_floods_13 j4 ?_
      refine r_icmp_ge (tgt := 98) h dX10_floods_14 (by decide) (fun c5 => ?_) (fun c5 => ?_)
      · have hf := ite_t c5 hf
        refine r_iload h 3 dX10_floods_98 rfl ?_
        exact r_ireturn h hq dX10_floods_100 ⟨_, rfl, hf⟩
      · have hf := ite_f c5 hf
        refine r_bipush (v := 71) h dX10_floods_17 (by decide) ?_
        refine r_iconst (v := 3) h dX10_floods_19 (by decide) ?_
        refine r_iload h 4 dX10_floods_20 rfl ?_
        refine r_imul h dX10_floods_22 ?_
        refine r_iadd h dX10_floods_23 ?_
        refine r_istore (lv' := [(6, .int ((71 : Int32) + ((3 : Int32) * v5))), (0, .ref v0), (2, .int v2), (3, .int v3), (4, .int v4), (5, .int v5)]) h dX10_floods_24 (by decide) rfl ?_
        refine r_iload h 5 dX10_floods_26 rfl ?_
        refine r_iload_n h 3 dX10_floods_28 rfl rfl ?_
        refine r_icmp_eq (tgt := 92) h dX10_floods_29 (by decide) (fun c6 => ?_) (fun c6 => ?_)
        · have hf := ite_t c6 hf
          refine r_iinc (v := v5 + 1) (lv' := [(5, .int (v5 + 1)), (6, .int ((71 : Int32) + ((3 : Int32) * v5))), (0, .ref v0), (2, .int v2), (3, .int v3), (4, .int v4)]) h 5 dX10_floods_92 rfl rfl (by decide) rfl ?_
          refine r_goto (tgt := 6) h dX10_floods_95 (by decide) ?_
          exact V.sub [2, 3, 4, 5, 0] rfl hf
        · have hf := ite_f c6 hf
          refine r_aload_n h 1 dX10_floods_32 rfl rfl ?_
          obtain ⟨b7, e8, hf⟩ := hf
          refine g1598 h dX10_floods_33 k1 e8 ?_
          refine r_iload h 0 dX10_floods_36 rfl ?_
          obtain ⟨j9, hf⟩ := hf
          refine r_iaload h dX10_floods_38 j9 ?_
          refine r_iload_n h 2 dX10_floods_39 rfl rfl ?_
          refine r_icmp_ne (tgt := 92) h dX10_floods_40 (by decide) (fun c10 => ?_) (fun c10 => ?_)
          · have hf := ite_f c10 hf
            refine r_iinc (v := v5 + 1) (lv' := [(5, .int (v5 + 1)), (6, .int ((71 : Int32) + ((3 : Int32) * v5))), (0, .ref v0), (2, .int v2), (3, .int v3), (4, .int v4)]) h 5 dX10_floods_92 rfl rfl (by decide) rfl ?_
            refine r_goto (tgt := 6) h dX10_floods_95 (by decide) ?_
            exact V.sub [2, 3, 4, 5, 0] rfl hf
          · have hf := ite_t c10 hf
            refine r_iload h 4 dX10_floods_43 rfl ?_
            refine r_aload_n h 1 dX10_floods_45 rfl rfl ?_
            obtain ⟨b11, e12, hf⟩ := hf
            refine g1598 h dX10_floods_46 k1 e12 ?_
            refine r_iload h 0 dX10_floods_49 rfl ?_
            refine r_iconst (v := 1) h dX10_floods_51 (by decide) ?_
            refine r_iadd h dX10_floods_52 ?_
            obtain ⟨j13, hf⟩ := hf
            refine r_iaload h dX10_floods_53 j13 ?_
            refine r_icmp_ge (tgt := 60) h dX10_floods_54 (by decide) (fun c14 => ?_) (fun c14 => ?_)
            · have hf := ite_t c14 hf
              refine r_iload h 4 dX10_floods_60 rfl ?_
              refine r_aload_n h 1 dX10_floods_62 rfl rfl ?_
              obtain ⟨b15, e16, hf⟩ := hf
              refine g1598 h dX10_floods_63 k1 e16 ?_
              refine r_iload h 0 dX10_floods_66 rfl ?_
              refine r_iconst (v := 2) h dX10_floods_68 (by decide) ?_
              refine r_iadd h dX10_floods_69 ?_
              obtain ⟨j17, hf⟩ := hf
              refine r_iaload h dX10_floods_70 j17 ?_
              refine r_iadd h dX10_floods_71 ?_
              refine r_nam (fun x18 ex18 => ?_)
              have hf := hf x18 ex18
              refine r_istore (lv' := [(4, .int x18), (6, .int ((71 : Int32) + ((3 : Int32) * v5))), (0, .ref v0), (2, .int v2), (3, .int v3), (5, .int v5)]) h dX10_floods_72 (by decide) rfl ?_
              refine r_aload_n h 2 dX10_floods_74 rfl rfl ?_
              refine r_dup h dX10_floods_75 rfl ?_
              refine g1627 h dX10_floods_76 k1 ?_
              refine r_aload_n h 2 dX10_floods_79 rfl rfl ?_
              obtain ⟨b19, e20, hf⟩ := hf
              refine g1598 h dX10_floods_80 k1 e20 ?_
              refine r_iload h 1 dX10_floods_83 rfl ?_
              refine r_iconst (v := 2) h dX10_floods_85 (by decide) ?_
              refine r_iadd h dX10_floods_86 ?_
              obtain ⟨j21, hf⟩ := hf
              refine r_iaload h dX10_floods_87 j21 ?_
              refine r_iadd h dX10_floods_88 ?_
              refine p1627 h dX10_floods_89 k1 ?_
              refine r_goW (fun M22 eM22 => ?_)
              have hf := hf M22 eM22
              refine r_iinc (v := v5 + 1) (lv' := [(5, .int (v5 + 1)), (4, .int x18), (6, .int ((71 : Int32) + ((3 : Int32) * v5))), (0, .ref v0), (2, .int v2), (3, .int v3)]) h 5 dX10_floods_92 rfl rfl (by decide) rfl ?_
              refine r_goto (tgt := 6) h dX10_floods_95 (by decide) ?_
              exact V.sub [3, 4, 5, 1, 0] rfl hf
            · have hf := ite_f c14 hf
              refine r_goto (tgt := 92) h dX10_floods_57 (by decide) ?_
              refine r_iinc (v := v5 + 1) (lv' := [(5, .int (v5 + 1)), (6, .int ((71 : Int32) + ((3 : Int32) * v5))), (0, .ref v0), (2, .int v2), (3, .int v3), (4, .int v4)]) h 5 dX10_floods_92 rfl rfl (by decide) rfl ?_
              refine r_goto (tgt := 6) h dX10_floods_95 (by decide) ?_
              exact V.sub [2, 3, 4, 5, 0] rfl hf)
  refine r_iload_n h 1 dX10_floods_0 rfl rfl ?_
  refine r_istore (lv' := [(4, .int a1), (0, .ref a0), (1, .int a1), (2, .int a2), (3, .int a3)]) h dX10_floods_1 (by decide) rfl ?_
  refine r_iconst (v := 0) h dX10_floods_3 (by decide) ?_
  refine r_istore (lv' := [(5, .int 0), (4, .int a1), (0, .ref a0), (1, .int a1), (2, .int a2), (3, .int a3)]) h dX10_floods_4 (by decide) rfl ?_
  exact V.sub [2, 4, 5, 1, 0] rfl hf
theorem c2029 {l : Launch} {G : gG} {X : gX} {cc : ByteArray} {nL F L bc bs pc : Nat} {M : gM} {lv : List (Nat × Value)} {rest : List Value} {a0 : Nat} {a1 : Int32} {a2 : Int32} {a3 : Int32} {K : Int32 → gM → Prop} (hl : l.stackTraces = false) (h : hX l G X cc nL "GlacierMailModel" F L) (d : decode cc pc = .ok (.invokevirtual 371, 3)) (hk : kd M a0 = some (.inl 10)) (hf : f_X10_floods a0 a1 a2 a3 M K) (hst : (rest.map fun v => v.category).sum ≤ 8) (hF : 1 ≤ F) (hL : 26 ≤ L) (kk : ∀ x M1, K x M1 → V l G X bc bs M1 (pc + 3) lv (.int x :: rest)) : V l G X bc bs M pc lv (.int a3 :: .int a2 :: .int a1 :: .ref a0 :: rest) := r_callV (n := 3) (As := [.int a1, .int a2, .int a3]) h (m_X10_floods hl hf) 10 rfl hk rfl ⟨by decide, by decide, by decide +kernel⟩ d q2029 q2031 qs109 q147 q2032 rfl rfl hst hF hL (Nat.zero_le _) (Nat.zero_le _) (kI_go kk) kN_go
def f_X10_runs (a0 : Nat) (a1 : Int32) (a2 : Int32) (a3 : Int32) (a4 : Int32) (a5 : Int32) (M : gM) (K : gM → Prop) : Prop :=
  ∀ P3 : Nat → Int32 → Int32 → Int32 → Int32 → Int32 → Int32 → gM → Prop,
  ∀ P50 : Nat → Int32 → Int32 → Int32 → Int32 → Int32 → Int32 → gM → Prop,
  ∀ P109 : Nat → Int32 → Int32 → Int32 → Int32 → Int32 → Int32 → Int32 → Nat → gM → Prop,
  ∀ P183 : Nat → Int32 → Int32 → Int32 → Int32 → Int32 → Int32 → gM → Prop,
  (∀ (v0 : Nat) (v1 : Int32) (v2 : Int32) (v3 : Int32) (v4 : Int32) (v5 : Int32) (v6 : Int32) (M : gM), (if v3 ≤ v6 then kd M v0 = some (.inl 10) ∧ ∀ M3, M3 = sI M v0 29 (-1) → kd M3 v0 = some (.inl 10) ∧ ∀ M5, M5 = sI M3 v0 30 0 → P50 v0 v1 v4 v5 v2 0 v3 M5 else kd M v0 = some (.inl 10) ∧ ∃ b7, rv M v0 27 = some b7 ∧ inA M b7 0 v6 ∧ ∀ M10, M10 = sI M b7 (ix v6) (-1) → kd M10 v0 = some (.inl 10) ∧ ∃ b12, rv M10 v0 28 = some b12 ∧ inA M10 b12 0 v6 ∧ ∀ M15, M15 = sI M10 b12 (ix v6) (-1) → P3 v0 v1 v2 v3 v4 v5 (v6 + 1) M15) → P3 v0 v1 v2 v3 v4 v5 v6 M) →
  (∀ (v0 : Nat) (v1 : Int32) (v4 : Int32) (v5 : Int32) (v6 : Int32) (v7 : Int32) (v8 : Int32) (M : gM), (if 300 ≤ v8 then K M else kd M v0 = some (.inl 10) ∧ ∃ b18, rv M v0 27 = some b18 ∧ f_X10_lip v0 M (fun x21 M20 => ∀ x22, x22 = (if x21 < v6 then x21 else v6) → inA M20 b18 0 v8 ∧ ∀ M24, M24 = sI M20 b18 (ix v8) x22 → kd M24 v0 = some (.inl 10) ∧ ∃ b26, rv M24 v0 28 = some b26 ∧ inA M24 b26 0 v8 ∧ ∀ M29, M29 = sI M24 b26 (ix v8) v7 → kd M29 v0 = some (.inl 10) ∧ if 0 ≤ (iv M29 v0 29) then P109 v0 v1 v4 v5 v6 v7 v8 (iv M29 v0 29) v0 M29 else f_X10_lip v0 M29 (fun x33 M32 => if v6 < x33 then kd M32 v0 = some (.inl 10) ∧ P109 v0 v1 v4 v5 v6 v7 v8 (iv M32 v0 29) v0 M32 else P109 v0 v1 v4 v5 v6 v7 v8 v8 v0 M32))) → P50 v0 v1 v4 v5 v6 v7 v8 M) →
  (∀ (v0 : Nat) (v1 : Int32) (v4 : Int32) (v5 : Int32) (v6 : Int32) (v7 : Int32) (v8 : Int32) (s0 : Int32) (s1 : Nat) (M : gM), (kd M s1 = some (.inl 10) ∧ ∀ M37, M37 = sI M s1 29 s0 → kd M37 v0 = some (.inl 10) ∧ if 0 ≤ (iv M37 v0 29) then P50 v0 v1 v4 v5 v6 v7 (v8 + 1) M37 else if v8 = 299 then P50 v0 v1 v4 v5 v6 v7 (v8 + 1) M37 else if v4 = 0 then ∃ b42, rv M37 v0 1 = some b42 ∧ inA M37 b42 0 10 ∧ if (iv M37 b42 (ix 10)) ≤ v6 then ∃ b46, rv M37 v0 24 = some b46 ∧ inA M37 b46 0 v8 ∧ ∀ x49, x49 = (if 0 < (v7 - (iv M37 b46 (ix v8))) then (v7 - (iv M37 b46 (ix v8))) else 0) → P183 v0 v1 v4 v5 v6 v8 x49 M37 else ∃ b50, rv M37 v0 1 = some b50 ∧ inA M37 b50 0 11 ∧ ∀ x53, x53 = (if (v7 + (iv M37 b50 (ix 11))) < 99 then (v7 + (iv M37 b50 (ix 11))) else 99) → P183 v0 v1 v4 v5 v6 v8 x53 M37 else P183 v0 v1 v4 v5 v6 v8 0 M37) → P109 v0 v1 v4 v5 v6 v7 v8 s0 s1 M) →
  (∀ (v0 : Nat) (v1 : Int32) (v4 : Int32) (v5 : Int32) (v6 : Int32) (v8 : Int32) (s0 : Int32) (M : gM), (kd M v0 = some (.inl 10) ∧ f_X10_flowAt v0 v1 v6 v8 M (fun x56 M55 => kd M55 v0 = some (.inl 10) ∧ f_X10_floods v0 (v6 + x56) v8 v5 M55 (fun x59 M58 => P50 v0 v1 v4 v5 x59 s0 (v8 + 1) M58))) → P183 v0 v1 v4 v5 v6 v8 s0 M) →
  P3 a0 a1 a2 a3 a4 a5 0 M
set_option maxHeartbeats 4000000 in
theorem m_X10_runs {l : Launch} (hl : l.stackTraces = false) {G : gG} {a0 : Nat} {a1 : Int32} {a2 : Int32} {a3 : Int32} {a4 : Int32} {a5 : Int32} {M : gM} {K : gM → Prop} (hf : f_X10_runs a0 a1 a2 a3 a4 a5 M K) : gMet l G yX10_runs (ws_ yX10_runs cX10_runs 9 none) ({ frames := 5, cells := 0, slots := 0, locals := 118 }) M [.ref a0, .int a1, .int a2, .int a3, .int a4, .int a5] (kV K) kN := by
  refine gm_of hl (ret := none) rfl (Nat.le_of_ble_eq_true rfl) (fun X h hq => ?_)
  have h : hX l G X cX10_runs 9 "GlacierMailModel" 5 118 := h
  have hf := hf
  show V l G X 0 0 M 0 [(0, .ref a0), (1, .int a1), (2, .int a2), (3, .int a3), (4, .int a4), (5, .int a5)] []
  have hf := hf
    (fun v0 v1 v2 v3 v4 v5 v6 M => V l G X 0 0 M 3 [(0, .ref v0), (1, .int v1), (2, .int v2), (3, .int v3), (4, .int v4), (5, .int v5), (6, .int v6)] [])
    (fun v0 v1 v4 v5 v6 v7 v8 M => V l G X 0 0 M 50 [(0, .ref v0), (1, .int v1), (4, .int v4), (5, .int v5), (6, .int v6), (7, .int v7), (8, .int v8)] [])
    (fun v0 v1 v4 v5 v6 v7 v8 s0 s1 M => V l G X 0 0 M 109 [(0, .ref v0), (1, .int v1), (4, .int v4), (5, .int v5), (6, .int v6), (7, .int v7), (8, .int v8)] [.int s0, .ref s1])
    (fun v0 v1 v4 v5 v6 v8 s0 M => V l G X 0 0 M 183 [(0, .ref v0), (1, .int v1), (4, .int v4), (5, .int v5), (6, .int v6), (8, .int v8)] [.int s0])
    (by
      intro v0 v1 v2 v3 v4 v5 v6 M hf
      show V l G X 0 0 M 3 [(0, .ref v0), (1, .int v1), (2, .int v2), (3, .int v3), (4, .int v4), (5, .int v5), (6, .int v6)] []
      refine r_iload h 6 dX10_runs_3 rfl ?_
      refine r_iload_n h 3 dX10_runs_5 rfl rfl ?_
      refine r_icmp_ge (tgt := 31) h dX10_runs_6 (by decide) (fun c1 => ?_) (fun c1 => ?_)
      · have hf := ite_t c1 hf
        refine r_iload_n h 2 dX10_runs_31 rfl rfl ?_
        refine r_istore (lv' := [(6, .int v2), (0, .ref v0), (1, .int v1), (2, .int v2), (3, .int v3), (4, .int v4), (5, .int v5)]) h dX10_runs_32 (by decide) rfl ?_
        refine r_iconst (v := 0) h dX10_runs_34 (by decide) ?_
        refine r_istore (lv' := [(7, .int 0), (6, .int v2), (0, .ref v0), (1, .int v1), (2, .int v2), (3, .int v3), (4, .int v4), (5, .int v5)]) h dX10_runs_35 (by decide) rfl ?_
        refine r_aload_n h 2 dX10_runs_37 rfl rfl ?_
        refine r_iconst (v := (-1)) h dX10_runs_38 (by decide) ?_
        obtain ⟨k2, hf⟩ := hf
        refine p1626 h dX10_runs_39 k2 ?_
        refine r_goW (fun M3 eM3 => ?_)
        have hf := hf M3 eM3
        refine r_aload_n h 2 dX10_runs_42 rfl rfl ?_
        refine r_iconst (v := 0) h dX10_runs_43 (by decide) ?_
        obtain ⟨k4, hf⟩ := hf
        refine p1627 h dX10_runs_44 k4 ?_
        refine r_goW (fun M5 eM5 => ?_)
        have hf := hf M5 eM5
        refine r_iload_n h 5 dX10_runs_47 rfl rfl ?_
        refine r_istore (lv' := [(8, .int v3), (7, .int 0), (6, .int v2), (0, .ref v0), (1, .int v1), (2, .int v2), (3, .int v3), (4, .int v4), (5, .int v5)]) h dX10_runs_48 (by decide) rfl ?_
        exact V.sub [3, 4, 7, 8, 2, 1, 0] rfl hf
      · have hf := ite_f c1 hf
        refine r_aload_n h 0 dX10_runs_9 rfl rfl ?_
        obtain ⟨k6, hf⟩ := hf
        obtain ⟨b7, e8, hf⟩ := hf
        refine g1624 h dX10_runs_10 k6 e8 ?_
        refine r_iload h 6 dX10_runs_13 rfl ?_
        refine r_iconst (v := (-1)) h dX10_runs_15 (by decide) ?_
        obtain ⟨j9, hf⟩ := hf
        refine r_iastore h dX10_runs_16 j9 ?_
        refine r_goW (fun M10 eM10 => ?_)
        have hf := hf M10 eM10
        refine r_aload_n h 0 dX10_runs_17 rfl rfl ?_
        obtain ⟨k11, hf⟩ := hf
        obtain ⟨b12, e13, hf⟩ := hf
        refine g1625 h dX10_runs_18 k11 e13 ?_
        refine r_iload h 6 dX10_runs_21 rfl ?_
        refine r_iconst (v := (-1)) h dX10_runs_23 (by decide) ?_
        obtain ⟨j14, hf⟩ := hf
        refine r_iastore h dX10_runs_24 j14 ?_
        refine r_goW (fun M15 eM15 => ?_)
        have hf := hf M15 eM15
        refine r_iinc (v := v6 + 1) (lv' := [(6, .int (v6 + 1)), (0, .ref v0), (1, .int v1), (2, .int v2), (3, .int v3), (4, .int v4), (5, .int v5)]) h 6 dX10_runs_25 rfl rfl (by decide) rfl ?_
        refine r_goto (tgt := 3) h dX10_runs_28 (by decide) ?_
        exact V.sub [1, 2, 3, 4, 5, 6, 0] rfl hf)
    (by
      intro v0 v1 v4 v5 v6 v7 v8 M hf
      show V l G X 0 0 M 50 [(0, .ref v0), (1, .int v1), (4, .int v4), (5, .int v5), (6, .int v6), (7, .int v7), (8, .int v8)] []
      refine r_iload h 6 dX10_runs_50 rfl ?_
      refine r_sipush (v := 300) h dX10_runs_52 (by decide) ?_
      refine r_icmp_ge (tgt := 213) h dX10_runs_55 (by decide) (fun c16 => ?_) (fun c16 => ?_)
      · have hf := ite_t c16 hf
        exact r_return h hq dX10_runs_213 ⟨rfl, hf⟩
      · have hf := ite_f c16 hf
        refine r_aload_n h 0 dX10_runs_58 rfl rfl ?_
        obtain ⟨k17, hf⟩ := hf
        obtain ⟨b18, e19, hf⟩ := hf
        refine g1624 h dX10_runs_59 k17 e19 ?_
        refine r_iload h 6 dX10_runs_62 rfl ?_
        refine r_iload h 4 dX10_runs_64 rfl ?_
        refine r_aload_n h 0 dX10_runs_66 rfl rfl ?_
        refine c1812 hl h dX10_runs_67 k17 hf (Nat.le_of_ble_eq_true rfl) (by decide) (by decide) (fun x21 M20 hf => ?_)
        refine r_mmin h q1987 q729 q165 q730 dX10_runs_70 (by decide) (by decide) (Nat.le_of_ble_eq_true rfl) ?_
        refine r_nam (fun x22 ex22 => ?_)
        have hf := hf x22 ex22
        obtain ⟨j23, hf⟩ := hf
        refine r_iastore h dX10_runs_73 j23 ?_
        refine r_goW (fun M24 eM24 => ?_)
        have hf := hf M24 eM24
        refine r_aload_n h 0 dX10_runs_74 rfl rfl ?_
        obtain ⟨k25, hf⟩ := hf
        obtain ⟨b26, e27, hf⟩ := hf
        refine g1625 h dX10_runs_75 k25 e27 ?_
        refine r_iload h 6 dX10_runs_78 rfl ?_
        refine r_iload h 5 dX10_runs_80 rfl ?_
        obtain ⟨j28, hf⟩ := hf
        refine r_iastore h dX10_runs_82 j28 ?_
        refine r_goW (fun M29 eM29 => ?_)
        have hf := hf M29 eM29
        refine r_aload_n h 0 dX10_runs_83 rfl rfl ?_
        refine r_aload_n h 0 dX10_runs_84 rfl rfl ?_
        obtain ⟨k30, hf⟩ := hf
        refine g1626 h dX10_runs_85 k30 ?_
        refine r_if_ge (tgt := 105) h dX10_runs_88 (by decide) (fun c31 => ?_) (fun c31 => ?_)
        · have hf := ite_t c31 hf
          refine r_aload_n h 0 dX10_runs_105 rfl rfl ?_
          refine g1626 h dX10_runs_106 k30 ?_
          exact V.sub [0, 1, 2, 3, 4, 5, 6] rfl hf
        · have hf := ite_f c31 hf
          refine r_iload h 4 dX10_runs_91 rfl ?_
          refine r_aload_n h 0 dX10_runs_93 rfl rfl ?_
          refine c1812 hl h dX10_runs_94 k30 hf (Nat.le_of_ble_eq_true rfl) (by decide) (by decide) (fun x33 M32 hf => ?_)
          refine r_icmp_lt (tgt := 105) h dX10_runs_97 (by decide) (fun c34 => ?_) (fun c34 => ?_)
          · have hf := ite_t c34 hf
            refine r_aload_n h 0 dX10_runs_105 rfl rfl ?_
            obtain ⟨k35, hf⟩ := hf
            refine g1626 h dX10_runs_106 k35 ?_
            exact V.sub [0, 1, 2, 3, 4, 5, 6] rfl hf
          · have hf := ite_f c34 hf
            refine r_iload h 6 dX10_runs_100 rfl ?_
            refine r_goto (tgt := 109) h dX10_runs_102 (by decide) ?_
            exact V.sub [0, 1, 2, 3, 4, 5, 6] rfl hf)
    (by
      intro v0 v1 v4 v5 v6 v7 v8 s0 s1 M hf
      show V l G X 0 0 M 109 [(0, .ref v0), (1, .int v1), (4, .int v4), (5, .int v5), (6, .int v6), (7, .int v7), (8, .int v8)] [.int s0, .ref s1]
      obtain ⟨k36, hf⟩ := hf
      refine p1626 h dX10_runs_109 k36 ?_
      refine r_goW (fun M37 eM37 => ?_)
      have hf := hf M37 eM37
      refine r_aload_n h 0 dX10_runs_112 rfl rfl ?_
      obtain ⟨k38, hf⟩ := hf
      refine g1626 h dX10_runs_113 k38 ?_
      refine r_if_ge (tgt := 207) h dX10_runs_116 (by decide) (fun c39 => ?_) (fun c39 => ?_)
      · have hf := ite_t c39 hf
        refine r_iinc (v := v8 + 1) (lv' := [(8, .int (v8 + 1)), (0, .ref v0), (1, .int v1), (4, .int v4), (5, .int v5), (6, .int v6), (7, .int v7)]) h 6 dX10_runs_207 rfl rfl (by decide) rfl ?_
        refine r_goto (tgt := 50) h dX10_runs_210 (by decide) ?_
        exact V.sub [1, 2, 3, 4, 5, 6, 0] rfl hf
      · have hf := ite_f c39 hf
        refine r_iload h 6 dX10_runs_119 rfl ?_
        refine r_sipush (v := 299) h dX10_runs_121 (by decide) ?_
        refine r_icmp_ne (tgt := 130) h dX10_runs_124 (by decide) (fun c40 => ?_) (fun c40 => ?_)
        · have hf := ite_f c40 hf
          refine r_iload h 2 dX10_runs_130 rfl ?_
          refine r_if_eq (tgt := 139) h dX10_runs_132 (by decide) (fun c41 => ?_) (fun c41 => ?_)
          · have hf := ite_t c41 hf
            refine r_iload h 4 dX10_runs_139 rfl ?_
            refine r_aload_n h 0 dX10_runs_141 rfl rfl ?_
            obtain ⟨b42, e43, hf⟩ := hf
            refine g1598 h dX10_runs_142 k38 e43 ?_
            refine r_bipush (v := 10) h dX10_runs_145 (by decide) ?_
            obtain ⟨j44, hf⟩ := hf
            refine r_iaload h dX10_runs_147 j44 ?_
            refine r_icmp_ge (tgt := 169) h dX10_runs_148 (by decide) (fun c45 => ?_) (fun c45 => ?_)
            · have hf := ite_t c45 hf
              refine r_iconst (v := 0) h dX10_runs_169 (by decide) ?_
              refine r_iload h 5 dX10_runs_170 rfl ?_
              refine r_aload_n h 0 dX10_runs_172 rfl rfl ?_
              obtain ⟨b46, e47, hf⟩ := hf
              refine g1621 h dX10_runs_173 k38 e47 ?_
              refine r_iload h 6 dX10_runs_176 rfl ?_
              obtain ⟨j48, hf⟩ := hf
              refine r_iaload h dX10_runs_178 j48 ?_
              refine r_isub h dX10_runs_179 ?_
              refine r_mmax h q1988 q732 q165 q733 dX10_runs_180 (by decide) (by decide) (Nat.le_of_ble_eq_true rfl) ?_
              refine r_nam (fun x49 ex49 => ?_)
              have hf := hf x49 ex49
              exact V.sub [0, 1, 2, 3, 4, 6] rfl hf
            · have hf := ite_f c45 hf
              refine r_bipush (v := 99) h dX10_runs_151 (by decide) ?_
              refine r_iload h 5 dX10_runs_153 rfl ?_
              refine r_aload_n h 0 dX10_runs_155 rfl rfl ?_
              obtain ⟨b50, e51, hf⟩ := hf
              refine g1598 h dX10_runs_156 k38 e51 ?_
              refine r_bipush (v := 11) h dX10_runs_159 (by decide) ?_
              obtain ⟨j52, hf⟩ := hf
              refine r_iaload h dX10_runs_161 j52 ?_
              refine r_iadd h dX10_runs_162 ?_
              refine r_mmin h q1987 q729 q165 q730 dX10_runs_163 (by decide) (by decide) (Nat.le_of_ble_eq_true rfl) ?_
              refine r_nam (fun x53 ex53 => ?_)
              have hf := hf x53 ex53
              refine r_goto (tgt := 183) h dX10_runs_166 (by decide) ?_
              exact V.sub [0, 1, 2, 3, 4, 6] rfl hf
          · have hf := ite_f c41 hf
            refine r_iconst (v := 0) h dX10_runs_135 (by decide) ?_
            refine r_goto (tgt := 183) h dX10_runs_136 (by decide) ?_
            exact V.sub [0, 1, 2, 3, 4, 6] rfl hf
        · have hf := ite_t c40 hf
          refine r_goto (tgt := 207) h dX10_runs_127 (by decide) ?_
          refine r_iinc (v := v8 + 1) (lv' := [(8, .int (v8 + 1)), (0, .ref v0), (1, .int v1), (4, .int v4), (5, .int v5), (6, .int v6), (7, .int v7)]) h 6 dX10_runs_207 rfl rfl (by decide) rfl ?_
          refine r_goto (tgt := 50) h dX10_runs_210 (by decide) ?_
          exact V.sub [1, 2, 3, 4, 5, 6, 0] rfl hf)
    (by
      intro v0 v1 v4 v5 v6 v8 s0 M hf
      show V l G X 0 0 M 183 [(0, .ref v0), (1, .int v1), (4, .int v4), (5, .int v5), (6, .int v6), (8, .int v8)] [.int s0]
      refine r_istore (lv' := [(7, .int s0), (0, .ref v0), (1, .int v1), (4, .int v4), (5, .int v5), (6, .int v6), (8, .int v8)]) h dX10_runs_183 (by decide) rfl ?_
      refine r_aload_n h 1 dX10_runs_185 rfl rfl ?_
      refine r_iload h 5 dX10_runs_186 rfl ?_
      refine r_aload_n h 1 dX10_runs_188 rfl rfl ?_
      refine r_iload_n h 2 dX10_runs_189 rfl rfl ?_
      refine r_iload h 5 dX10_runs_190 rfl ?_
      refine r_iload h 6 dX10_runs_192 rfl ?_
      obtain ⟨k54, hf⟩ := hf
      refine c1967 hl h dX10_runs_194 k54 hf (Nat.le_of_ble_eq_true rfl) (by decide) (by decide) (fun x56 M55 hf => ?_)
      refine r_iadd h dX10_runs_197 ?_
      refine r_iload h 6 dX10_runs_198 rfl ?_
      refine r_iload h 4 dX10_runs_200 rfl ?_
      obtain ⟨k57, hf⟩ := hf
      refine c2029 hl h dX10_runs_202 k57 hf (Nat.le_of_ble_eq_true rfl) (by decide) (by decide) (fun x59 M58 hf => ?_)
      refine r_istore (lv' := [(6, .int x59), (7, .int s0), (0, .ref v0), (1, .int v1), (4, .int v4), (5, .int v5), (8, .int v8)]) h dX10_runs_205 (by decide) rfl ?_
      refine r_iinc (v := v8 + 1) (lv' := [(8, .int (v8 + 1)), (6, .int x59), (7, .int s0), (0, .ref v0), (1, .int v1), (4, .int v4), (5, .int v5)]) h 6 dX10_runs_207 rfl rfl (by decide) rfl ?_
      refine r_goto (tgt := 50) h dX10_runs_210 (by decide) ?_
      exact V.sub [3, 4, 5, 6, 1, 2, 0] rfl hf)
  refine r_iconst (v := 0) h dX10_runs_0 (by decide) ?_
  refine r_istore (lv' := [(6, .int 0), (0, .ref a0), (1, .int a1), (2, .int a2), (3, .int a3), (4, .int a4), (5, .int a5)]) h dX10_runs_1 (by decide) rfl ?_
  exact V.sub [1, 2, 3, 4, 5, 6, 0] rfl hf
theorem c2025 {l : Launch} {G : gG} {X : gX} {cc : ByteArray} {nL F L bc bs pc : Nat} {M : gM} {lv : List (Nat × Value)} {rest : List Value} {a0 : Nat} {a1 : Int32} {a2 : Int32} {a3 : Int32} {a4 : Int32} {a5 : Int32} {K : gM → Prop} (hl : l.stackTraces = false) (h : hX l G X cc nL "GlacierMailModel" F L) (d : decode cc pc = .ok (.invokevirtual 377, 3)) (hk : kd M a0 = some (.inl 10)) (hf : f_X10_runs a0 a1 a2 a3 a4 a5 M K) (hst : (rest.map fun v => v.category).sum ≤ 8) (hF : 6 ≤ F) (hL : 146 ≤ L) (kk : ∀ M1, K M1 → V l G X bc bs M1 (pc + 3) lv rest) : V l G X bc bs M pc lv (.int a5 :: .int a4 :: .int a3 :: .int a2 :: .int a1 :: .ref a0 :: rest) := r_callV (n := 5) (As := [.int a1, .int a2, .int a3, .int a4, .int a5]) h (m_X10_runs hl hf) 10 rfl hk rfl ⟨by decide, by decide, by decide +kernel⟩ d q2025 q2027 qs108 q147 q2028 rfl rfl hst hF hL (Nat.zero_le _) (Nat.zero_le _) (kV_go kk) kN_go
def f_X10_runsLetter (a0 : Nat) (a1 : Int32) (a2 : Int32) (M : gM) (K : gM → Prop) : Prop :=
  kd M a0 = some (.inl 10) ∧ f_X10_ofLetter a0 a1 2 M (fun x3 M2 => kd M2 a0 = some (.inl 10) ∧ f_X10_ofLetter a0 a1 4 M2 (fun x6 M5 => kd M5 a0 = some (.inl 10) ∧ f_X10_ofLetter a0 a1 3 M5 (fun x9 M8 => kd M8 a0 = some (.inl 10) ∧ f_X10_isRock a0 a1 M8 (fun x12 M11 => kd M11 a0 = some (.inl 10) ∧ f_X10_runs a0 x3 x6 x9 x12 a2 M11 (fun M14 => K M14)))))
set_option maxHeartbeats 4000000 in
theorem m_X10_runsLetter {l : Launch} (hl : l.stackTraces = false) {G : gG} {a0 : Nat} {a1 : Int32} {a2 : Int32} {M : gM} {K : gM → Prop} (hf : f_X10_runsLetter a0 a1 a2 M K) : gMet l G yX10_runsLetter (ws_ yX10_runsLetter cX10_runsLetter 3 none) ({ frames := 6, cells := 0, slots := 0, locals := 146 }) M [.ref a0, .int a1, .int a2] (kV K) kN := by
  refine gm_of hl (ret := none) rfl (Nat.le_of_ble_eq_true rfl) (fun X h hq => ?_)
  have h : hX l G X cX10_runsLetter 3 "GlacierMailModel" 6 146 := h
  have hf := hf
  show V l G X 0 0 M 0 [(0, .ref a0), (1, .int a1), (2, .int a2)] []
  unfold f_X10_runsLetter at hf
  refine r_aload_n h 0 dX10_runsLetter_0 rfl rfl ?_
  refine r_aload_n h 0 dX10_runsLetter_1 rfl rfl ?_
  refine r_iload_n h 1 dX10_runsLetter_2 rfl rfl ?_
  refine r_iconst (v := 2) h dX10_runsLetter_3 (by decide) ?_
  obtain ⟨k1, hf⟩ := hf
  refine c2005 hl h dX10_runsLetter_4 k1 hf (Nat.le_of_ble_eq_true rfl) (by decide) (by decide) (fun x3 M2 hf => ?_)
  refine r_aload_n h 0 dX10_runsLetter_7 rfl rfl ?_
  refine r_iload_n h 1 dX10_runsLetter_8 rfl rfl ?_
  refine r_iconst (v := 4) h dX10_runsLetter_9 (by decide) ?_
  obtain ⟨k4, hf⟩ := hf
  refine c2005 hl h dX10_runsLetter_10 k4 hf (Nat.le_of_ble_eq_true rfl) (by decide) (by decide) (fun x6 M5 hf => ?_)
  refine r_aload_n h 0 dX10_runsLetter_13 rfl rfl ?_
  refine r_iload_n h 1 dX10_runsLetter_14 rfl rfl ?_
  refine r_iconst (v := 3) h dX10_runsLetter_15 (by decide) ?_
  obtain ⟨k7, hf⟩ := hf
  refine c2005 hl h dX10_runsLetter_16 k7 hf (Nat.le_of_ble_eq_true rfl) (by decide) (by decide) (fun x9 M8 hf => ?_)
  refine r_aload_n h 0 dX10_runsLetter_19 rfl rfl ?_
  refine r_iload_n h 1 dX10_runsLetter_20 rfl rfl ?_
  obtain ⟨k10, hf⟩ := hf
  refine c2013 hl h dX10_runsLetter_21 k10 hf (Nat.le_of_ble_eq_true rfl) (by decide) (by decide) (fun x12 M11 hf => ?_)
  refine r_iload_n h 2 dX10_runsLetter_24 rfl rfl ?_
  obtain ⟨k13, hf⟩ := hf
  refine c2025 hl h dX10_runsLetter_25 k13 hf (Nat.le_of_ble_eq_true rfl) (by decide) (by decide) (fun M14 hf => ?_)
  exact r_return h hq dX10_runsLetter_28 ⟨rfl, hf⟩
theorem c2021 {l : Launch} {G : gG} {X : gX} {cc : ByteArray} {nL F L bc bs pc : Nat} {M : gM} {lv : List (Nat × Value)} {rest : List Value} {a0 : Nat} {a1 : Int32} {a2 : Int32} {K : gM → Prop} (hl : l.stackTraces = false) (h : hX l G X cc nL "GlacierMailModel" F L) (d : decode cc pc = .ok (.invokevirtual 381, 3)) (hk : kd M a0 = some (.inl 10)) (hf : f_X10_runsLetter a0 a1 a2 M K) (hst : (rest.map fun v => v.category).sum ≤ 8) (hF : 7 ≤ F) (hL : 168 ≤ L) (kk : ∀ M1, K M1 → V l G X bc bs M1 (pc + 3) lv rest) : V l G X bc bs M pc lv (.int a2 :: .int a1 :: .ref a0 :: rest) := r_callV (n := 2) (As := [.int a1, .int a2]) h (m_X10_runsLetter hl hf) 10 rfl hk rfl ⟨by decide, by decide, by decide +kernel⟩ d q2021 q2023 qs107 q147 q2024 rfl rfl hst hF hL (Nat.zero_le _) (Nat.zero_le _) (kV_go kk) kN_go
def f_X10_outOf (a0 : Nat) (a1 : Int32) (M : gM) (K : Int32 → gM → Prop) : Prop :=
  kd M a0 = some (.inl 10) ∧ f_X10_runsLetter a0 a1 (-1) M (fun M2 => kd M2 a0 = some (.inl 10) ∧ K (iv M2 a0 29) M2)
set_option maxHeartbeats 4000000 in
theorem m_X10_outOf {l : Launch} (hl : l.stackTraces = false) {G : gG} {a0 : Nat} {a1 : Int32} {M : gM} {K : Int32 → gM → Prop} (hf : f_X10_outOf a0 a1 M K) : gMet l G yX10_outOf (ws_ yX10_outOf cX10_outOf 2 (some Jvm.ClassFile.FieldType.int)) ({ frames := 7, cells := 0, slots := 0, locals := 168 }) M [.ref a0, .int a1] (kI K) kN := by
  refine gm_of hl (ret := (some Jvm.ClassFile.FieldType.int)) rfl (Nat.le_of_ble_eq_true rfl) (fun X h hq => ?_)
  have h : hX l G X cX10_outOf 2 "GlacierMailModel" 7 168 := h
  have hf := hf
  show V l G X 0 0 M 0 [(0, .ref a0), (1, .int a1)] []
  unfold f_X10_outOf at hf
  refine r_aload_n h 0 dX10_outOf_0 rfl rfl ?_
  refine r_iload_n h 1 dX10_outOf_1 rfl rfl ?_
  refine r_iconst (v := (-1)) h dX10_outOf_2 (by decide) ?_
  obtain ⟨k1, hf⟩ := hf
  refine c2021 hl h dX10_outOf_3 k1 hf (Nat.le_of_ble_eq_true rfl) (by decide) (by decide) (fun M2 hf => ?_)
  refine r_aload_n h 0 dX10_outOf_6 rfl rfl ?_
  obtain ⟨k3, hf⟩ := hf
  refine g1626 h dX10_outOf_7 k3 ?_
  exact r_ireturn h hq dX10_outOf_10 ⟨_, rfl, hf⟩
theorem c2017 {l : Launch} {G : gG} {X : gX} {cc : ByteArray} {nL F L bc bs pc : Nat} {M : gM} {lv : List (Nat × Value)} {rest : List Value} {a0 : Nat} {a1 : Int32} {K : Int32 → gM → Prop} (hl : l.stackTraces = false) (h : hX l G X cc nL "GlacierMailModel" F L) (d : decode cc pc = .ok (.invokevirtual 387, 3)) (hk : kd M a0 = some (.inl 10)) (hf : f_X10_outOf a0 a1 M K) (hst : (rest.map fun v => v.category).sum ≤ 8) (hF : 8 ≤ F) (hL : 189 ≤ L) (kk : ∀ x M1, K x M1 → V l G X bc bs M1 (pc + 3) lv (.int x :: rest)) : V l G X bc bs M pc lv (.int a1 :: .ref a0 :: rest) := r_callV (n := 1) (As := [.int a1]) h (m_X10_outOf hl hf) 10 rfl hk rfl ⟨by decide, by decide, by decide +kernel⟩ d q2017 q2019 qs106 q147 q2020 rfl rfl hst hF hL (Nat.zero_le _) (Nat.zero_le _) (kI_go kk) kN_go
def f_X10_isWaiting (a0 : Nat) (a1 : Int32) (M : gM) (K : Int32 → gM → Prop) : Prop :=
  kd M a0 = some (.inl 10) ∧ f_X10_isRock a0 a1 M (fun x3 M2 => if x3 = 0 then kd M2 a0 = some (.inl 10) ∧ f_X10_ofLetter a0 a1 5 M2 (fun x7 M6 => if x7 < 0 then kd M6 a0 = some (.inl 10) ∧ f_X10_outOf a0 a1 M6 (fun x11 M10 => if x11 < 0 then K 0 M10 else kd M10 a0 = some (.inl 10) ∧ f_X10_now a0 M10 (fun x15 M14 => if x15 < x11 then K 0 M14 else K 1 M14)) else K 0 M6) else K 0 M2)
set_option maxHeartbeats 4000000 in
theorem m_X10_isWaiting {l : Launch} (hl : l.stackTraces = false) {G : gG} {a0 : Nat} {a1 : Int32} {M : gM} {K : Int32 → gM → Prop} (hf : f_X10_isWaiting a0 a1 M K) : gMet l G yX10_isWaiting (ws_ yX10_isWaiting cX10_isWaiting 3 (some Jvm.ClassFile.FieldType.boolean)) ({ frames := 8, cells := 0, slots := 0, locals := 189 }) M [.ref a0, .int a1] (kI K) kN := by
  refine gm_of hl (ret := (some Jvm.ClassFile.FieldType.boolean)) rfl (Nat.le_of_ble_eq_true rfl) (fun X h hq => ?_)
  have h : hX l G X cX10_isWaiting 3 "GlacierMailModel" 8 189 := h
  have hf := hf
  show V l G X 0 0 M 0 [(0, .ref a0), (1, .int a1)] []
  unfold f_X10_isWaiting at hf
  refine r_aload_n h 0 dX10_isWaiting_0 rfl rfl ?_
  refine r_iload_n h 1 dX10_isWaiting_1 rfl rfl ?_
  obtain ⟨k1, hf⟩ := hf
  refine c2013 hl h dX10_isWaiting_2 k1 hf (Nat.le_of_ble_eq_true rfl) (by decide) (by decide) (fun x3 M2 hf => ?_)
  refine r_if_ne (tgt := 17) h dX10_isWaiting_5 (by decide) (fun c4 => ?_) (fun c4 => ?_)
  · have hf := ite_f c4 hf
    refine r_iconst (v := 0) h dX10_isWaiting_17 (by decide) ?_
    exact r_zreturn h hq dX10_isWaiting_18 (by decide) ⟨_, rfl, hf⟩
  · have hf := ite_t c4 hf
    refine r_aload_n h 0 dX10_isWaiting_8 rfl rfl ?_
    refine r_iload_n h 1 dX10_isWaiting_9 rfl rfl ?_
    refine r_iconst (v := 5) h dX10_isWaiting_10 (by decide) ?_
    obtain ⟨k5, hf⟩ := hf
    refine c2005 hl h dX10_isWaiting_11 k5 hf (Nat.le_of_ble_eq_true rfl) (by decide) (by decide) (fun x7 M6 hf => ?_)
    refine r_if_lt (tgt := 19) h dX10_isWaiting_14 (by decide) (fun c8 => ?_) (fun c8 => ?_)
    · have hf := ite_t c8 hf
      refine r_aload_n h 0 dX10_isWaiting_19 rfl rfl ?_
      refine r_iload_n h 1 dX10_isWaiting_20 rfl rfl ?_
      obtain ⟨k9, hf⟩ := hf
      refine c2017 hl h dX10_isWaiting_21 k9 hf (Nat.le_of_ble_eq_true rfl) (by decide) (by decide) (fun x11 M10 hf => ?_)
      refine r_istore_n (lv' := [(2, .int x11), (0, .ref a0), (1, .int a1)]) h dX10_isWaiting_24 rfl (by decide) rfl ?_
      refine r_iload_n h 0 dX10_isWaiting_25 rfl rfl ?_
      refine r_if_lt (tgt := 41) h dX10_isWaiting_26 (by decide) (fun c12 => ?_) (fun c12 => ?_)
      · have hf := ite_t c12 hf
        refine r_iconst (v := 0) h dX10_isWaiting_41 (by decide) ?_
        exact r_zreturn h hq dX10_isWaiting_42 (by decide) ⟨_, rfl, hf⟩
      · have hf := ite_f c12 hf
        refine r_iload_n h 0 dX10_isWaiting_29 rfl rfl ?_
        refine r_aload_n h 1 dX10_isWaiting_30 rfl rfl ?_
        obtain ⟨k13, hf⟩ := hf
        refine c1843 hl h dX10_isWaiting_31 k13 hf (Nat.le_of_ble_eq_true rfl) (by decide) (by decide) (fun x15 M14 hf => ?_)
        refine r_icmp_gt (tgt := 41) h dX10_isWaiting_34 (by decide) (fun c16 => ?_) (fun c16 => ?_)
        · have hf := ite_t c16 hf
          refine r_iconst (v := 0) h dX10_isWaiting_41 (by decide) ?_
          exact r_zreturn h hq dX10_isWaiting_42 (by decide) ⟨_, rfl, hf⟩
        · have hf := ite_f c16 hf
          refine r_iconst (v := 1) h dX10_isWaiting_37 (by decide) ?_
          refine r_goto (tgt := 42) h dX10_isWaiting_38 (by decide) ?_
          exact r_zreturn h hq dX10_isWaiting_42 (by decide) ⟨_, rfl, hf⟩
    · have hf := ite_f c8 hf
      refine r_iconst (v := 0) h dX10_isWaiting_17 (by decide) ?_
      exact r_zreturn h hq dX10_isWaiting_18 (by decide) ⟨_, rfl, hf⟩
theorem c2009 {l : Launch} {G : gG} {X : gX} {cc : ByteArray} {nL F L bc bs pc : Nat} {M : gM} {lv : List (Nat × Value)} {rest : List Value} {a0 : Nat} {a1 : Int32} {K : Int32 → gM → Prop} (hl : l.stackTraces = false) (h : hX l G X cc nL "GlacierMailModel" F L) (d : decode cc pc = .ok (.invokevirtual 390, 3)) (hk : kd M a0 = some (.inl 10)) (hf : f_X10_isWaiting a0 a1 M K) (hst : (rest.map fun v => v.category).sum ≤ 8) (hF : 9 ≤ F) (hL : 211 ≤ L) (kk : ∀ x M1, K x M1 → V l G X bc bs M1 (pc + 3) lv (.int x :: rest)) : V l G X bc bs M pc lv (.int a1 :: .ref a0 :: rest) := r_callV (n := 1) (As := [.int a1]) h (m_X10_isWaiting hl hf) 10 rfl hk rfl ⟨by decide, by decide, by decide +kernel⟩ d q2009 q2011 qs104 q147 q2012 rfl rfl hst hF hL (Nat.zero_le _) (Nat.zero_le _) (kI_go kk) kN_go
def f_X10_countOf (a0 : Nat) (a1 : Int32) (a2 : Int32) (M : gM) (K : Int32 → gM → Prop) : Prop :=
  ∀ P5 : Nat → Int32 → Int32 → Int32 → Int32 → gM → Prop,
  ∀ P87 : Nat → Int32 → Int32 → Int32 → Int32 → Int32 → gM → Prop,
  (∀ (v0 : Nat) (v1 : Int32) (v2 : Int32) (v3 : Int32) (v4 : Int32) (M : gM), (kd M v0 = some (.inl 10) ∧ f_X10_letters v0 M (fun x3 M2 => if x3 ≤ v4 then K v3 M2 else if v2 = 3 then kd M2 v0 = some (.inl 10) ∧ f_X10_ofLetter v0 v4 0 M2 (fun x21 M20 => if x21 = v1 then P87 v0 v1 v2 v3 v4 1 M20 else P87 v0 v1 v2 v3 v4 0 M20) else if v2 = 4 then kd M2 v0 = some (.inl 10) ∧ f_X10_ofLetter v0 v4 5 M2 (fun x17 M16 => if x17 = v1 then P87 v0 v1 v2 v3 v4 1 M16 else P87 v0 v1 v2 v3 v4 0 M16) else kd M2 v0 = some (.inl 10) ∧ f_X10_ofLetter v0 v4 1 M2 (fun x9 M8 => if x9 = v1 then kd M8 v0 = some (.inl 10) ∧ f_X10_isWaiting v0 v4 M8 (fun x13 M12 => if x13 = 0 then P87 v0 v1 v2 v3 v4 0 M12 else P87 v0 v1 v2 v3 v4 1 M12) else P87 v0 v1 v2 v3 v4 0 M8))) → P5 v0 v1 v2 v3 v4 M) →
  (∀ (v0 : Nat) (v1 : Int32) (v2 : Int32) (v3 : Int32) (v4 : Int32) (s0 : Int32) (M : gM), (if s0 = 0 then P5 v0 v1 v2 (v3 + 0) (v4 + 1) M else P5 v0 v1 v2 (v3 + 1) (v4 + 1) M) → P87 v0 v1 v2 v3 v4 s0 M) →
  P5 a0 a1 a2 0 0 M
set_option maxHeartbeats 4000000 in
theorem m_X10_countOf {l : Launch} (hl : l.stackTraces = false) {G : gG} {a0 : Nat} {a1 : Int32} {a2 : Int32} {M : gM} {K : Int32 → gM → Prop} (hf : f_X10_countOf a0 a1 a2 M K) : gMet l G yX10_countOf (ws_ yX10_countOf cX10_countOf 6 (some Jvm.ClassFile.FieldType.int)) ({ frames := 9, cells := 0, slots := 0, locals := 211 }) M [.ref a0, .int a1, .int a2] (kI K) kN := by
  refine gm_of hl (ret := (some Jvm.ClassFile.FieldType.int)) rfl (Nat.le_of_ble_eq_true rfl) (fun X h hq => ?_)
  have h : hX l G X cX10_countOf 6 "GlacierMailModel" 9 211 := h
  have hf := hf
  show V l G X 0 0 M 0 [(0, .ref a0), (1, .int a1), (2, .int a2)] []
  have hf := hf
    (fun v0 v1 v2 v3 v4 M => V l G X 0 0 M 5 [(0, .ref v0), (1, .int v1), (2, .int v2), (3, .int v3), (4, .int v4)] [])
    (fun v0 v1 v2 v3 v4 s0 M => V l G X 0 0 M 87 [(0, .ref v0), (1, .int v1), (2, .int v2), (3, .int v3), (4, .int v4)] [.int s0])
    (by
      intro v0 v1 v2 v3 v4 M hf
      show V l G X 0 0 M 5 [(0, .ref v0), (1, .int v1), (2, .int v2), (3, .int v3), (4, .int v4)] []
      refine r_iload h 4 dX10_countOf_5 rfl ?_
      refine r_aload_n h 0 dX10_countOf_7 rfl rfl ?_
      obtain ⟨k1, hf⟩ := hf
      refine c1790 hl h dX10_countOf_8 k1 hf (Nat.le_of_ble_eq_true rfl) (by decide) (by decide) (fun x3 M2 hf => ?_)
      refine r_icmp_ge (tgt := 108) h dX10_countOf_11 (by decide) (fun c4 => ?_) (fun c4 => ?_)
      · have hf := ite_t c4 hf
        refine r_iload_n h 3 dX10_countOf_108 rfl rfl ?_
        exact r_ireturn h hq dX10_countOf_109 ⟨_, rfl, hf⟩
      · have hf := ite_f c4 hf
        refine r_iload_n h 2 dX10_countOf_14 rfl rfl ?_
        refine r_iconst (v := 3) h dX10_countOf_15 (by decide) ?_
        refine r_icmp_ne (tgt := 38) h dX10_countOf_16 (by decide) (fun c5 => ?_) (fun c5 => ?_)
        · have hf := ite_f c5 hf
          refine r_iload_n h 2 dX10_countOf_38 rfl rfl ?_
          refine r_iconst (v := 4) h dX10_countOf_39 (by decide) ?_
          refine r_icmp_ne (tgt := 62) h dX10_countOf_40 (by decide) (fun c6 => ?_) (fun c6 => ?_)
          · have hf := ite_f c6 hf
            refine r_aload_n h 0 dX10_countOf_62 rfl rfl ?_
            refine r_iload h 4 dX10_countOf_63 rfl ?_
            refine r_iconst (v := 1) h dX10_countOf_65 (by decide) ?_
            obtain ⟨k7, hf⟩ := hf
            refine c2005 hl h dX10_countOf_66 k7 hf (Nat.le_of_ble_eq_true rfl) (by decide) (by decide) (fun x9 M8 hf => ?_)
            refine r_iload_n h 1 dX10_countOf_69 rfl rfl ?_
            refine r_icmp_ne (tgt := 86) h dX10_countOf_70 (by decide) (fun c10 => ?_) (fun c10 => ?_)
            · have hf := ite_f c10 hf
              refine r_iconst (v := 0) h dX10_countOf_86 (by decide) ?_
              exact V.sub [0, 1, 2, 3, 4] rfl hf
            · have hf := ite_t c10 hf
              refine r_aload_n h 0 dX10_countOf_73 rfl rfl ?_
              refine r_iload h 4 dX10_countOf_74 rfl ?_
              obtain ⟨k11, hf⟩ := hf
              refine c2009 hl h dX10_countOf_76 k11 hf (Nat.le_of_ble_eq_true rfl) (by decide) (by decide) (fun x13 M12 hf => ?_)
              refine r_if_eq (tgt := 86) h dX10_countOf_79 (by decide) (fun c14 => ?_) (fun c14 => ?_)
              · have hf := ite_t c14 hf
                refine r_iconst (v := 0) h dX10_countOf_86 (by decide) ?_
                exact V.sub [0, 1, 2, 3, 4] rfl hf
              · have hf := ite_f c14 hf
                refine r_iconst (v := 1) h dX10_countOf_82 (by decide) ?_
                refine r_goto (tgt := 87) h dX10_countOf_83 (by decide) ?_
                exact V.sub [0, 1, 2, 3, 4] rfl hf
          · have hf := ite_t c6 hf
            refine r_aload_n h 0 dX10_countOf_43 rfl rfl ?_
            refine r_iload h 4 dX10_countOf_44 rfl ?_
            refine r_iconst (v := 5) h dX10_countOf_46 (by decide) ?_
            obtain ⟨k15, hf⟩ := hf
            refine c2005 hl h dX10_countOf_47 k15 hf (Nat.le_of_ble_eq_true rfl) (by decide) (by decide) (fun x17 M16 hf => ?_)
            refine r_iload_n h 1 dX10_countOf_50 rfl rfl ?_
            refine r_icmp_ne (tgt := 58) h dX10_countOf_51 (by decide) (fun c18 => ?_) (fun c18 => ?_)
            · have hf := ite_f c18 hf
              refine r_iconst (v := 0) h dX10_countOf_58 (by decide) ?_
              refine r_goto (tgt := 87) h dX10_countOf_59 (by decide) ?_
              exact V.sub [0, 1, 2, 3, 4] rfl hf
            · have hf := ite_t c18 hf
              refine r_iconst (v := 1) h dX10_countOf_54 (by decide) ?_
              refine r_goto (tgt := 87) h dX10_countOf_55 (by decide) ?_
              exact V.sub [0, 1, 2, 3, 4] rfl hf
        · have hf := ite_t c5 hf
          refine r_aload_n h 0 dX10_countOf_19 rfl rfl ?_
          refine r_iload h 4 dX10_countOf_20 rfl ?_
          refine r_iconst (v := 0) h dX10_countOf_22 (by decide) ?_
          obtain ⟨k19, hf⟩ := hf
          refine c2005 hl h dX10_countOf_23 k19 hf (Nat.le_of_ble_eq_true rfl) (by decide) (by decide) (fun x21 M20 hf => ?_)
          refine r_iload_n h 1 dX10_countOf_26 rfl rfl ?_
          refine r_icmp_ne (tgt := 34) h dX10_countOf_27 (by decide) (fun c22 => ?_) (fun c22 => ?_)
          · have hf := ite_f c22 hf
            refine r_iconst (v := 0) h dX10_countOf_34 (by decide) ?_
            refine r_goto (tgt := 87) h dX10_countOf_35 (by decide) ?_
            exact V.sub [0, 1, 2, 3, 4] rfl hf
          · have hf := ite_t c22 hf
            refine r_iconst (v := 1) h dX10_countOf_30 (by decide) ?_
            refine r_goto (tgt := 87) h dX10_countOf_31 (by decide) ?_
            exact V.sub [0, 1, 2, 3, 4] rfl hf)
    (by
      intro v0 v1 v2 v3 v4 s0 M hf
      show V l G X 0 0 M 87 [(0, .ref v0), (1, .int v1), (2, .int v2), (3, .int v3), (4, .int v4)] [.int s0]
      refine r_istore (lv' := [(5, .int s0), (0, .ref v0), (1, .int v1), (2, .int v2), (3, .int v3), (4, .int v4)]) h dX10_countOf_87 (by decide) rfl ?_
      refine r_iload_n h 4 dX10_countOf_89 rfl rfl ?_
      refine r_iload h 0 dX10_countOf_90 rfl ?_
      refine r_if_eq (tgt := 99) h dX10_countOf_92 (by decide) (fun c23 => ?_) (fun c23 => ?_)
      · have hf := ite_t c23 hf
        refine r_iconst (v := 0) h dX10_countOf_99 (by decide) ?_
        refine r_iadd h dX10_countOf_100 ?_
        refine r_istore_n (lv' := [(3, .int (v3 + 0)), (5, .int s0), (0, .ref v0), (1, .int v1), (2, .int v2), (4, .int v4)]) h dX10_countOf_101 rfl (by decide) rfl ?_
        refine r_iinc (v := v4 + 1) (lv' := [(4, .int (v4 + 1)), (3, .int (v3 + 0)), (5, .int s0), (0, .ref v0), (1, .int v1), (2, .int v2)]) h 5 dX10_countOf_102 rfl rfl (by decide) rfl ?_
        refine r_goto (tgt := 5) h dX10_countOf_105 (by decide) ?_
        exact V.sub [3, 4, 5, 1, 0] rfl hf
      · have hf := ite_f c23 hf
        refine r_iconst (v := 1) h dX10_countOf_95 (by decide) ?_
        refine r_goto (tgt := 100) h dX10_countOf_96 (by decide) ?_
        refine r_iadd h dX10_countOf_100 ?_
        refine r_istore_n (lv' := [(3, .int (v3 + 1)), (5, .int s0), (0, .ref v0), (1, .int v1), (2, .int v2), (4, .int v4)]) h dX10_countOf_101 rfl (by decide) rfl ?_
        refine r_iinc (v := v4 + 1) (lv' := [(4, .int (v4 + 1)), (3, .int (v3 + 1)), (5, .int s0), (0, .ref v0), (1, .int v1), (2, .int v2)]) h 5 dX10_countOf_102 rfl rfl (by decide) rfl ?_
        refine r_goto (tgt := 5) h dX10_countOf_105 (by decide) ?_
        exact V.sub [3, 4, 5, 1, 0] rfl hf)
  refine r_iconst (v := 0) h dX10_countOf_0 (by decide) ?_
  refine r_istore_n (lv' := [(3, .int 0), (0, .ref a0), (1, .int a1), (2, .int a2)]) h dX10_countOf_1 rfl (by decide) rfl ?_
  refine r_iconst (v := 0) h dX10_countOf_2 (by decide) ?_
  refine r_istore (lv' := [(4, .int 0), (3, .int 0), (0, .ref a0), (1, .int a1), (2, .int a2)]) h dX10_countOf_3 (by decide) rfl ?_
  exact V.sub [2, 3, 4, 1, 0] rfl hf
theorem c2001 {l : Launch} {G : gG} {X : gX} {cc : ByteArray} {nL F L bc bs pc : Nat} {M : gM} {lv : List (Nat × Value)} {rest : List Value} {a0 : Nat} {a1 : Int32} {a2 : Int32} {K : Int32 → gM → Prop} (hl : l.stackTraces = false) (h : hX l G X cc nL "GlacierMailModel" F L) (d : decode cc pc = .ok (.invokevirtual 399, 3)) (hk : kd M a0 = some (.inl 10)) (hf : f_X10_countOf a0 a1 a2 M K) (hst : (rest.map fun v => v.category).sum ≤ 8) (hF : 10 ≤ F) (hL : 236 ≤ L) (kk : ∀ x M1, K x M1 → V l G X bc bs M1 (pc + 3) lv (.int x :: rest)) : V l G X bc bs M pc lv (.int a2 :: .int a1 :: .ref a0 :: rest) := r_callV (n := 2) (As := [.int a1, .int a2]) h (m_X10_countOf hl hf) 10 rfl hk rfl ⟨by decide, by decide, by decide +kernel⟩ d q2001 q2003 qs102 q147 q2004 rfl rfl hst hF hL (Nat.zero_le _) (Nat.zero_le _) (kI_go kk) kN_go
def f_X10_person (a0 : Nat) (a1 : Int32) (a2 : Int32) (M : gM) (K : Int32 → gM → Prop) : Prop :=
  ∀ P33 : Nat → Int32 → Int32 → Int32 → Nat → gM → Prop,
  (∀ (v0 : Nat) (v1 : Int32) (v2 : Int32) (s0 : Int32) (s1 : Nat) (M : gM), (kd M s1 = some (.inl 10) ∧ f_X10_throwsIf s1 s0 2 M (fun x15 M14 => if x15 = 0 then if 3 ≤ v2 then kd M14 v0 = some (.inl 10) ∧ f_X10_countOf v0 v1 v2 M14 (fun x20 M19 => K x20 M19) else kd M14 v0 = some (.inl 10) ∧ f_X10_of v0 v1 v2 M14 (fun x23 M22 => K x23 M22) else K 0 M14)) → P33 v0 v1 v2 s0 s1 M) →
  kd M a0 = some (.inl 10) ∧ ∀ M2, M2 = sI M a0 0 0 → kd M2 a0 = some (.inl 10) ∧ f_X10_noPerson a0 a1 M2 (fun x5 M4 => kd M4 a0 = some (.inl 10) ∧ f_X10_throwsIf a0 x5 1 M4 (fun x8 M7 => if x8 = 0 then f_X10_in a2 0 5 M7 (fun x11 M10 => if x11 = 0 then P33 a0 a1 a2 1 a0 M10 else P33 a0 a1 a2 0 a0 M10) else K 0 M7))
set_option maxHeartbeats 4000000 in
theorem m_X10_person {l : Launch} (hl : l.stackTraces = false) {G : gG} {a0 : Nat} {a1 : Int32} {a2 : Int32} {M : gM} {K : Int32 → gM → Prop} (hf : f_X10_person a0 a1 a2 M K) : gMet l G yX10_person (ws_ yX10_person cX10_person 3 (some Jvm.ClassFile.FieldType.int)) ({ frames := 10, cells := 0, slots := 0, locals := 236 }) M [.ref a0, .int a1, .int a2] (kI K) kN := by
  refine gm_of hl (ret := (some Jvm.ClassFile.FieldType.int)) rfl (Nat.le_of_ble_eq_true rfl) (fun X h hq => ?_)
  have h : hX l G X cX10_person 3 "GlacierMailModel" 10 236 := h
  have hf := hf
  show V l G X 0 0 M 0 [(0, .ref a0), (1, .int a1), (2, .int a2)] []
  have hf := hf
    (fun v0 v1 v2 s0 s1 M => V l G X 0 0 M 33 [(0, .ref v0), (1, .int v1), (2, .int v2)] [.int s0, .ref s1])
    (by
      intro v0 v1 v2 s0 s1 M hf
      show V l G X 0 0 M 33 [(0, .ref v0), (1, .int v1), (2, .int v2)] [.int s0, .ref s1]
      refine r_iconst (v := 2) h dX10_person_33 (by decide) ?_
      obtain ⟨k13, hf⟩ := hf
      refine c1929 hl h dX10_person_34 k13 hf (Nat.le_of_ble_eq_true rfl) (by decide) (by decide) (fun x15 M14 hf => ?_)
      refine r_if_eq (tgt := 42) h dX10_person_37 (by decide) (fun c16 => ?_) (fun c16 => ?_)
      · have hf := ite_t c16 hf
        refine r_iload_n h 2 dX10_person_42 rfl rfl ?_
        refine r_iconst (v := 3) h dX10_person_43 (by decide) ?_
        refine r_icmp_ge (tgt := 56) h dX10_person_44 (by decide) (fun c17 => ?_) (fun c17 => ?_)
        · have hf := ite_t c17 hf
          refine r_aload_n h 0 dX10_person_56 rfl rfl ?_
          refine r_iload_n h 1 dX10_person_57 rfl rfl ?_
          refine r_iload_n h 2 dX10_person_58 rfl rfl ?_
          obtain ⟨k18, hf⟩ := hf
          refine c2001 hl h dX10_person_59 k18 hf (Nat.le_of_ble_eq_true rfl) (by decide) (by decide) (fun x20 M19 hf => ?_)
          exact r_ireturn h hq dX10_person_62 ⟨_, rfl, hf⟩
        · have hf := ite_f c17 hf
          refine r_aload_n h 0 dX10_person_47 rfl rfl ?_
          refine r_iload_n h 1 dX10_person_48 rfl rfl ?_
          refine r_iload_n h 2 dX10_person_49 rfl rfl ?_
          obtain ⟨k21, hf⟩ := hf
          refine c1997 hl h dX10_person_50 k21 hf (Nat.le_of_ble_eq_true rfl) (by decide) (by decide) (fun x23 M22 hf => ?_)
          refine r_goto (tgt := 62) h dX10_person_53 (by decide) ?_
          exact r_ireturn h hq dX10_person_62 ⟨_, rfl, hf⟩
      · have hf := ite_f c16 hf
        refine r_iconst (v := 0) h dX10_person_40 (by decide) ?_
        exact r_ireturn h hq dX10_person_41 ⟨_, rfl, hf⟩)
  refine r_aload_n h 0 dX10_person_0 rfl rfl ?_
  refine r_iconst (v := 0) h dX10_person_1 (by decide) ?_
  obtain ⟨k1, hf⟩ := hf
  refine p1597 h dX10_person_2 k1 ?_
  refine r_goW (fun M2 eM2 => ?_)
  have hf := hf M2 eM2
  refine r_aload_n h 0 dX10_person_5 rfl rfl ?_
  refine r_aload_n h 0 dX10_person_6 rfl rfl ?_
  refine r_iload_n h 1 dX10_person_7 rfl rfl ?_
  obtain ⟨k3, hf⟩ := hf
  refine c1993 hl h dX10_person_8 k3 hf (Nat.le_of_ble_eq_true rfl) (by decide) (by decide) (fun x5 M4 hf => ?_)
  refine r_iconst (v := 1) h dX10_person_11 (by decide) ?_
  obtain ⟨k6, hf⟩ := hf
  refine c1929 hl h dX10_person_12 k6 hf (Nat.le_of_ble_eq_true rfl) (by decide) (by decide) (fun x8 M7 hf => ?_)
  refine r_if_ne (tgt := 40) h dX10_person_15 (by decide) (fun c9 => ?_) (fun c9 => ?_)
  · have hf := ite_f c9 hf
    refine r_iconst (v := 0) h dX10_person_40 (by decide) ?_
    exact r_ireturn h hq dX10_person_41 ⟨_, rfl, hf⟩
  · have hf := ite_t c9 hf
    refine r_aload_n h 0 dX10_person_18 rfl rfl ?_
    refine r_iload_n h 2 dX10_person_19 rfl rfl ?_
    refine r_iconst (v := 0) h dX10_person_20 (by decide) ?_
    refine r_iconst (v := 5) h dX10_person_21 (by decide) ?_
    refine c1944 hl h dX10_person_22 hf (Nat.le_of_ble_eq_true rfl) (by decide) (by decide) (fun x11 M10 hf => ?_)
    refine r_if_ne (tgt := 32) h dX10_person_25 (by decide) (fun c12 => ?_) (fun c12 => ?_)
    · have hf := ite_f c12 hf
      refine r_iconst (v := 0) h dX10_person_32 (by decide) ?_
      exact V.sub [0, 1, 2] rfl hf
    · have hf := ite_t c12 hf
      refine r_iconst (v := 1) h dX10_person_28 (by decide) ?_
      refine r_goto (tgt := 33) h dX10_person_29 (by decide) ?_
      exact V.sub [0, 1, 2] rfl hf
theorem c1989 {l : Launch} {G : gG} {X : gX} {cc : ByteArray} {nL F L bc bs pc : Nat} {M : gM} {lv : List (Nat × Value)} {rest : List Value} {a0 : Nat} {a1 : Int32} {a2 : Int32} {K : Int32 → gM → Prop} (hl : l.stackTraces = false) (h : hX l G X cc nL "GlacierMailLaw" F L) (d : decode cc pc = .ok (.invokevirtual 179, 3)) (hk : kd M a0 = some (.inl 10)) (hf : f_X10_person a0 a1 a2 M K) (hst : (rest.map fun v => v.category).sum ≤ 8) (hF : 11 ≤ F) (hL : 258 ≤ L) (kk : ∀ x M1, K x M1 → V l G X bc bs M1 (pc + 3) lv (.int x :: rest)) : V l G X bc bs M pc lv (.int a2 :: .int a1 :: .ref a0 :: rest) := r_callV (n := 2) (As := [.int a1, .int a2]) h (m_X10_person hl hf) 10 rfl hk rfl ⟨by decide, by decide, by decide +kernel⟩ d q1989 q1990 q1991 q147 q1992 rfl rfl hst hF hL (Nat.zero_le _) (Nat.zero_le _) (kI_go kk) kN_go
def f_X10_noLetter (a0 : Nat) (a1 : Int32) (M : gM) (K : Int32 → gM → Prop) : Prop :=
  kd M a0 = some (.inl 10) ∧ f_X10_letters a0 M (fun x3 M2 => f_X10_in a1 0 (x3 - 1) M2 (fun x5 M4 => if x5 = 0 then K 1 M4 else K 0 M4))
set_option maxHeartbeats 4000000 in
theorem m_X10_noLetter {l : Launch} (hl : l.stackTraces = false) {G : gG} {a0 : Nat} {a1 : Int32} {M : gM} {K : Int32 → gM → Prop} (hf : f_X10_noLetter a0 a1 M K) : gMet l G yX10_noLetter (ws_ yX10_noLetter cX10_noLetter 2 (some Jvm.ClassFile.FieldType.boolean)) ({ frames := 1, cells := 0, slots := 0, locals := 22 }) M [.ref a0, .int a1] (kI K) kN := by
  refine gm_of hl (ret := (some Jvm.ClassFile.FieldType.boolean)) rfl (Nat.le_of_ble_eq_true rfl) (fun X h hq => ?_)
  have h : hX l G X cX10_noLetter 2 "GlacierMailModel" 1 22 := h
  have hf := hf
  show V l G X 0 0 M 0 [(0, .ref a0), (1, .int a1)] []
  unfold f_X10_noLetter at hf
  refine r_iload_n h 1 dX10_noLetter_0 rfl rfl ?_
  refine r_iconst (v := 0) h dX10_noLetter_1 (by decide) ?_
  refine r_aload_n h 0 dX10_noLetter_2 rfl rfl ?_
  obtain ⟨k1, hf⟩ := hf
  refine c1790 hl h dX10_noLetter_3 k1 hf (Nat.le_of_ble_eq_true rfl) (by decide) (by decide) (fun x3 M2 hf => ?_)
  refine r_iconst (v := 1) h dX10_noLetter_6 (by decide) ?_
  refine r_isub h dX10_noLetter_7 ?_
  refine c1944 hl h dX10_noLetter_8 hf (Nat.le_of_ble_eq_true rfl) (by decide) (by decide) (fun x5 M4 hf => ?_)
  refine r_if_ne (tgt := 18) h dX10_noLetter_11 (by decide) (fun c6 => ?_) (fun c6 => ?_)
  · have hf := ite_f c6 hf
    refine r_iconst (v := 0) h dX10_noLetter_18 (by decide) ?_
    exact r_zreturn h hq dX10_noLetter_19 (by decide) ⟨_, rfl, hf⟩
  · have hf := ite_t c6 hf
    refine r_iconst (v := 1) h dX10_noLetter_14 (by decide) ?_
    refine r_goto (tgt := 19) h dX10_noLetter_15 (by decide) ?_
    exact r_zreturn h hq dX10_noLetter_19 (by decide) ⟨_, rfl, hf⟩
theorem c2037 {l : Launch} {G : gG} {X : gX} {cc : ByteArray} {nL F L bc bs pc : Nat} {M : gM} {lv : List (Nat × Value)} {rest : List Value} {a0 : Nat} {a1 : Int32} {K : Int32 → gM → Prop} (hl : l.stackTraces = false) (h : hX l G X cc nL "GlacierMailModel" F L) (d : decode cc pc = .ok (.invokevirtual 405, 3)) (hk : kd M a0 = some (.inl 10)) (hf : f_X10_noLetter a0 a1 M K) (hst : (rest.map fun v => v.category).sum ≤ 8) (hF : 2 ≤ F) (hL : 43 ≤ L) (kk : ∀ x M1, K x M1 → V l G X bc bs M1 (pc + 3) lv (.int x :: rest)) : V l G X bc bs M pc lv (.int a1 :: .ref a0 :: rest) := r_callV (n := 1) (As := [.int a1]) h (m_X10_noLetter hl hf) 10 rfl hk rfl ⟨by decide, by decide, by decide +kernel⟩ d q2037 q2039 qs110 q147 q2040 rfl rfl hst hF hL (Nat.zero_le _) (Nat.zero_le _) (kI_go kk) kN_go
def f_X10_isInIce (a0 : Nat) (a1 : Int32) (M : gM) (K : Int32 → gM → Prop) : Prop :=
  kd M a0 = some (.inl 10) ∧ ∃ b2, rv M a0 27 = some b2 ∧ inA M b2 0 a1 ∧ if (iv M b2 (ix a1)) < 0 then K 0 M else ∃ b6, rv M a0 27 = some b6 ∧ inA M b6 0 a1 ∧ f_X10_lip a0 M (fun x10 M9 => if x10 ≤ (iv M b6 (ix a1)) then K 0 M9 else K 1 M9)
set_option maxHeartbeats 4000000 in
theorem m_X10_isInIce {l : Launch} (hl : l.stackTraces = false) {G : gG} {a0 : Nat} {a1 : Int32} {M : gM} {K : Int32 → gM → Prop} (hf : f_X10_isInIce a0 a1 M K) : gMet l G yX10_isInIce (ws_ yX10_isInIce cX10_isInIce 2 (some Jvm.ClassFile.FieldType.boolean)) ({ frames := 1, cells := 0, slots := 0, locals := 20 }) M [.ref a0, .int a1] (kI K) kN := by
  refine gm_of hl (ret := (some Jvm.ClassFile.FieldType.boolean)) rfl (Nat.le_of_ble_eq_true rfl) (fun X h hq => ?_)
  have h : hX l G X cX10_isInIce 2 "GlacierMailModel" 1 20 := h
  have hf := hf
  show V l G X 0 0 M 0 [(0, .ref a0), (1, .int a1)] []
  unfold f_X10_isInIce at hf
  refine r_aload_n h 0 dX10_isInIce_0 rfl rfl ?_
  obtain ⟨k1, hf⟩ := hf
  obtain ⟨b2, e3, hf⟩ := hf
  refine g1624 h dX10_isInIce_1 k1 e3 ?_
  refine r_iload_n h 1 dX10_isInIce_4 rfl rfl ?_
  obtain ⟨j4, hf⟩ := hf
  refine r_iaload h dX10_isInIce_5 j4 ?_
  refine r_if_lt (tgt := 26) h dX10_isInIce_6 (by decide) (fun c5 => ?_) (fun c5 => ?_)
  · have hf := ite_t c5 hf
    refine r_iconst (v := 0) h dX10_isInIce_26 (by decide) ?_
    exact r_zreturn h hq dX10_isInIce_27 (by decide) ⟨_, rfl, hf⟩
  · have hf := ite_f c5 hf
    refine r_aload_n h 0 dX10_isInIce_9 rfl rfl ?_
    obtain ⟨b6, e7, hf⟩ := hf
    refine g1624 h dX10_isInIce_10 k1 e7 ?_
    refine r_iload_n h 1 dX10_isInIce_13 rfl rfl ?_
    obtain ⟨j8, hf⟩ := hf
    refine r_iaload h dX10_isInIce_14 j8 ?_
    refine r_aload_n h 0 dX10_isInIce_15 rfl rfl ?_
    refine c1812 hl h dX10_isInIce_16 k1 hf (Nat.le_of_ble_eq_true rfl) (by decide) (by decide) (fun x10 M9 hf => ?_)
    refine r_icmp_ge (tgt := 26) h dX10_isInIce_19 (by decide) (fun c11 => ?_) (fun c11 => ?_)
    · have hf := ite_t c11 hf
      refine r_iconst (v := 0) h dX10_isInIce_26 (by decide) ?_
      exact r_zreturn h hq dX10_isInIce_27 (by decide) ⟨_, rfl, hf⟩
    · have hf := ite_f c11 hf
      refine r_iconst (v := 1) h dX10_isInIce_22 (by decide) ?_
      refine r_goto (tgt := 27) h dX10_isInIce_23 (by decide) ?_
      exact r_zreturn h hq dX10_isInIce_27 (by decide) ⟨_, rfl, hf⟩
theorem c2049 {l : Launch} {G : gG} {X : gX} {cc : ByteArray} {nL F L bc bs pc : Nat} {M : gM} {lv : List (Nat × Value)} {rest : List Value} {a0 : Nat} {a1 : Int32} {K : Int32 → gM → Prop} (hl : l.stackTraces = false) (h : hX l G X cc nL "GlacierMailModel" F L) (d : decode cc pc = .ok (.invokevirtual 384, 3)) (hk : kd M a0 = some (.inl 10)) (hf : f_X10_isInIce a0 a1 M K) (hst : (rest.map fun v => v.category).sum ≤ 8) (hF : 2 ≤ F) (hL : 41 ≤ L) (kk : ∀ x M1, K x M1 → V l G X bc bs M1 (pc + 3) lv (.int x :: rest)) : V l G X bc bs M pc lv (.int a1 :: .ref a0 :: rest) := r_callV (n := 1) (As := [.int a1]) h (m_X10_isInIce hl hf) 10 rfl hk rfl ⟨by decide, by decide, by decide +kernel⟩ d q2049 q2051 qs113 q147 q2052 rfl rfl hst hF hL (Nat.zero_le _) (Nat.zero_le _) (kI_go kk) kN_go
def f_X10_isBare (a0 : Nat) (a1 : Int32) (a2 : Int32) (M : gM) (K : Int32 → gM → Prop) : Prop :=
  kd M a0 = some (.inl 10) ∧ f_X10_ofLetter a0 a1 3 M (fun x3 M2 => if a2 ≤ x3 then K 0 M2 else kd M2 a0 = some (.inl 10) ∧ f_X10_isInIce a0 a2 M2 (fun x7 M6 => if x7 = 0 then K 0 M6 else kd M6 a0 = some (.inl 10) ∧ ∃ b10, rv M6 a0 28 = some b10 ∧ inA M6 b10 0 a2 ∧ if (iv M6 b10 (ix a2)) = 0 then K 1 M6 else K 0 M6))
set_option maxHeartbeats 4000000 in
theorem m_X10_isBare {l : Launch} (hl : l.stackTraces = false) {G : gG} {a0 : Nat} {a1 : Int32} {a2 : Int32} {M : gM} {K : Int32 → gM → Prop} (hf : f_X10_isBare a0 a1 a2 M K) : gMet l G yX10_isBare (ws_ yX10_isBare cX10_isBare 3 (some Jvm.ClassFile.FieldType.boolean)) ({ frames := 2, cells := 0, slots := 0, locals := 41 }) M [.ref a0, .int a1, .int a2] (kI K) kN := by
  refine gm_of hl (ret := (some Jvm.ClassFile.FieldType.boolean)) rfl (Nat.le_of_ble_eq_true rfl) (fun X h hq => ?_)
  have h : hX l G X cX10_isBare 3 "GlacierMailModel" 2 41 := h
  have hf := hf
  show V l G X 0 0 M 0 [(0, .ref a0), (1, .int a1), (2, .int a2)] []
  unfold f_X10_isBare at hf
  refine r_iload_n h 2 dX10_isBare_0 rfl rfl ?_
  refine r_aload_n h 0 dX10_isBare_1 rfl rfl ?_
  refine r_iload_n h 1 dX10_isBare_2 rfl rfl ?_
  refine r_iconst (v := 3) h dX10_isBare_3 (by decide) ?_
  obtain ⟨k1, hf⟩ := hf
  refine c2005 hl h dX10_isBare_4 k1 hf (Nat.le_of_ble_eq_true rfl) (by decide) (by decide) (fun x3 M2 hf => ?_)
  refine r_icmp_le (tgt := 31) h dX10_isBare_7 (by decide) (fun c4 => ?_) (fun c4 => ?_)
  · have hf := ite_t c4 hf
    refine r_iconst (v := 0) h dX10_isBare_31 (by decide) ?_
    exact r_zreturn h hq dX10_isBare_32 (by decide) ⟨_, rfl, hf⟩
  · have hf := ite_f c4 hf
    refine r_aload_n h 0 dX10_isBare_10 rfl rfl ?_
    refine r_iload_n h 2 dX10_isBare_11 rfl rfl ?_
    obtain ⟨k5, hf⟩ := hf
    refine c2049 hl h dX10_isBare_12 k5 hf (Nat.le_of_ble_eq_true rfl) (by decide) (by decide) (fun x7 M6 hf => ?_)
    refine r_if_eq (tgt := 31) h dX10_isBare_15 (by decide) (fun c8 => ?_) (fun c8 => ?_)
    · have hf := ite_t c8 hf
      refine r_iconst (v := 0) h dX10_isBare_31 (by decide) ?_
      exact r_zreturn h hq dX10_isBare_32 (by decide) ⟨_, rfl, hf⟩
    · have hf := ite_f c8 hf
      refine r_aload_n h 0 dX10_isBare_18 rfl rfl ?_
      obtain ⟨k9, hf⟩ := hf
      obtain ⟨b10, e11, hf⟩ := hf
      refine g1625 h dX10_isBare_19 k9 e11 ?_
      refine r_iload_n h 2 dX10_isBare_22 rfl rfl ?_
      obtain ⟨j12, hf⟩ := hf
      refine r_iaload h dX10_isBare_23 j12 ?_
      refine r_if_ne (tgt := 31) h dX10_isBare_24 (by decide) (fun c13 => ?_) (fun c13 => ?_)
      · have hf := ite_f c13 hf
        refine r_iconst (v := 0) h dX10_isBare_31 (by decide) ?_
        exact r_zreturn h hq dX10_isBare_32 (by decide) ⟨_, rfl, hf⟩
      · have hf := ite_t c13 hf
        refine r_iconst (v := 1) h dX10_isBare_27 (by decide) ?_
        refine r_goto (tgt := 32) h dX10_isBare_28 (by decide) ?_
        exact r_zreturn h hq dX10_isBare_32 (by decide) ⟨_, rfl, hf⟩
theorem c2045 {l : Launch} {G : gG} {X : gX} {cc : ByteArray} {nL F L bc bs pc : Nat} {M : gM} {lv : List (Nat × Value)} {rest : List Value} {a0 : Nat} {a1 : Int32} {a2 : Int32} {K : Int32 → gM → Prop} (hl : l.stackTraces = false) (h : hX l G X cc nL "GlacierMailModel" F L) (d : decode cc pc = .ok (.invokevirtual 402, 3)) (hk : kd M a0 = some (.inl 10)) (hf : f_X10_isBare a0 a1 a2 M K) (hst : (rest.map fun v => v.category).sum ≤ 8) (hF : 3 ≤ F) (hL : 63 ≤ L) (kk : ∀ x M1, K x M1 → V l G X bc bs M1 (pc + 3) lv (.int x :: rest)) : V l G X bc bs M pc lv (.int a2 :: .int a1 :: .ref a0 :: rest) := r_callV (n := 2) (As := [.int a1, .int a2]) h (m_X10_isBare hl hf) 10 rfl hk rfl ⟨by decide, by decide, by decide +kernel⟩ d q2045 q2047 qs112 q147 q2048 rfl rfl hst hF hL (Nat.zero_le _) (Nat.zero_le _) (kI_go kk) kN_go
def f_X10_bareFrom (a0 : Nat) (a1 : Int32) (M : gM) (K : Int32 → gM → Prop) : Prop :=
  ∀ P2 : Nat → Int32 → Int32 → gM → Prop,
  (∀ (v0 : Nat) (v1 : Int32) (v2 : Int32) (M : gM), (if 300 ≤ v2 then K (-1) M else kd M v0 = some (.inl 10) ∧ f_X10_isBare v0 v1 v2 M (fun x4 M3 => if x4 = 0 then P2 v0 v1 (v2 + 1) M3 else K v2 M3)) → P2 v0 v1 v2 M) →
  P2 a0 a1 0 M
set_option maxHeartbeats 4000000 in
theorem m_X10_bareFrom {l : Launch} (hl : l.stackTraces = false) {G : gG} {a0 : Nat} {a1 : Int32} {M : gM} {K : Int32 → gM → Prop} (hf : f_X10_bareFrom a0 a1 M K) : gMet l G yX10_bareFrom (ws_ yX10_bareFrom cX10_bareFrom 3 (some Jvm.ClassFile.FieldType.int)) ({ frames := 3, cells := 0, slots := 0, locals := 63 }) M [.ref a0, .int a1] (kI K) kN := by
  refine gm_of hl (ret := (some Jvm.ClassFile.FieldType.int)) rfl (Nat.le_of_ble_eq_true rfl) (fun X h hq => ?_)
  have h : hX l G X cX10_bareFrom 3 "GlacierMailModel" 3 63 := h
  have hf := hf
  show V l G X 0 0 M 0 [(0, .ref a0), (1, .int a1)] []
  have hf := hf
    (fun v0 v1 v2 M => V l G X 0 0 M 2 [(0, .ref v0), (1, .int v1), (2, .int v2)] [])
    (by
      intro v0 v1 v2 M hf
      show V l G X 0 0 M 2 [(0, .ref v0), (1, .int v1), (2, .int v2)] []
      refine r_iload_n h 2 dX10_bareFrom_2 rfl rfl ?_
      refine r_sipush (v := 300) h dX10_bareFrom_3 (by decide) ?_
      refine r_icmp_ge (tgt := 26) h dX10_bareFrom_6 (by decide) (fun c1 => ?_) (fun c1 => ?_)
      · have hf := ite_t c1 hf
        refine r_iconst (v := (-1)) h dX10_bareFrom_26 (by decide) ?_
        exact r_ireturn h hq dX10_bareFrom_27 ⟨_, rfl, hf⟩
      · have hf := ite_f c1 hf
        refine r_aload_n h 0 dX10_bareFrom_9 rfl rfl ?_
        refine r_iload_n h 1 dX10_bareFrom_10 rfl rfl ?_
        refine r_iload_n h 2 dX10_bareFrom_11 rfl rfl ?_
        obtain ⟨k2, hf⟩ := hf
        refine c2045 hl h dX10_bareFrom_12 k2 hf (Nat.le_of_ble_eq_true rfl) (by decide) (by decide) (fun x4 M3 hf => ?_)
        refine r_if_eq (tgt := 20) h dX10_bareFrom_15 (by decide) (fun c5 => ?_) (fun c5 => ?_)
        · have hf := ite_t c5 hf
          refine r_iinc (v := v2 + 1) (lv' := [(2, .int (v2 + 1)), (0, .ref v0), (1, .int v1)]) h 2 dX10_bareFrom_20 rfl rfl (by decide) rfl ?_
          refine r_goto (tgt := 2) h dX10_bareFrom_23 (by decide) ?_
          exact V.sub [1, 2, 0] rfl hf
        · have hf := ite_f c5 hf
          refine r_iload_n h 2 dX10_bareFrom_18 rfl rfl ?_
          exact r_ireturn h hq dX10_bareFrom_19 ⟨_, rfl, hf⟩)
  refine r_iconst (v := 0) h dX10_bareFrom_0 (by decide) ?_
  refine r_istore_n (lv' := [(2, .int 0), (0, .ref a0), (1, .int a1)]) h dX10_bareFrom_1 rfl (by decide) rfl ?_
  exact V.sub [1, 2, 0] rfl hf
theorem c2041 {l : Launch} {G : gG} {X : gX} {cc : ByteArray} {nL F L bc bs pc : Nat} {M : gM} {lv : List (Nat × Value)} {rest : List Value} {a0 : Nat} {a1 : Int32} {K : Int32 → gM → Prop} (hl : l.stackTraces = false) (h : hX l G X cc nL "GlacierMailModel" F L) (d : decode cc pc = .ok (.invokevirtual 408, 3)) (hk : kd M a0 = some (.inl 10)) (hf : f_X10_bareFrom a0 a1 M K) (hst : (rest.map fun v => v.category).sum ≤ 8) (hF : 4 ≤ F) (hL : 85 ≤ L) (kk : ∀ x M1, K x M1 → V l G X bc bs M1 (pc + 3) lv (.int x :: rest)) : V l G X bc bs M pc lv (.int a1 :: .ref a0 :: rest) := r_callV (n := 1) (As := [.int a1]) h (m_X10_bareFrom hl hf) 10 rfl hk rfl ⟨by decide, by decide, by decide +kernel⟩ d q2041 q2043 qs111 q147 q2044 rfl rfl hst hF hL (Nat.zero_le _) (Nat.zero_le _) (kI_go kk) kN_go
def f_X10_letter (a0 : Nat) (a1 : Int32) (a2 : Int32) (M : gM) (K : Int32 → gM → Prop) : Prop :=
  ∀ P34 : Nat → Int32 → Int32 → Int32 → Nat → gM → Prop,
  (∀ (v0 : Nat) (v1 : Int32) (v2 : Int32) (s0 : Int32) (s1 : Nat) (M : gM), (kd M s1 = some (.inl 10) ∧ f_X10_throwsIf s1 s0 2 M (fun x15 M14 => if x15 = 0 then if 7 ≤ v2 then kd M14 v0 = some (.inl 10) ∧ f_X10_outOf v0 v1 M14 (fun x20 M19 => if v2 = 7 then K x20 M19 else if v2 = 8 then if 0 ≤ x20 then kd M19 v0 = some (.inl 10) ∧ ∃ b28, rv M19 v0 28 = some b28 ∧ inA M19 b28 0 x20 ∧ K (iv M19 b28 (ix x20)) M19 else K (-1) M19 else kd M19 v0 = some (.inl 10) ∧ f_X10_bareFrom v0 v1 M19 (fun x25 M24 => K x25 M24)) else kd M14 v0 = some (.inl 10) ∧ f_X10_ofLetter v0 v1 v2 M14 (fun x33 M32 => K x33 M32) else K 0 M14)) → P34 v0 v1 v2 s0 s1 M) →
  kd M a0 = some (.inl 10) ∧ ∀ M2, M2 = sI M a0 0 0 → kd M2 a0 = some (.inl 10) ∧ f_X10_noLetter a0 a1 M2 (fun x5 M4 => kd M4 a0 = some (.inl 10) ∧ f_X10_throwsIf a0 x5 1 M4 (fun x8 M7 => if x8 = 0 then f_X10_in a2 0 9 M7 (fun x11 M10 => if x11 = 0 then P34 a0 a1 a2 1 a0 M10 else P34 a0 a1 a2 0 a0 M10) else K 0 M7))
set_option maxHeartbeats 4000000 in
theorem m_X10_letter {l : Launch} (hl : l.stackTraces = false) {G : gG} {a0 : Nat} {a1 : Int32} {a2 : Int32} {M : gM} {K : Int32 → gM → Prop} (hf : f_X10_letter a0 a1 a2 M K) : gMet l G yX10_letter (ws_ yX10_letter cX10_letter 4 (some Jvm.ClassFile.FieldType.int)) ({ frames := 8, cells := 0, slots := 0, locals := 189 }) M [.ref a0, .int a1, .int a2] (kI K) kN := by
  refine gm_of hl (ret := (some Jvm.ClassFile.FieldType.int)) rfl (Nat.le_of_ble_eq_true rfl) (fun X h hq => ?_)
  have h : hX l G X cX10_letter 4 "GlacierMailModel" 8 189 := h
  have hf := hf
  show V l G X 0 0 M 0 [(0, .ref a0), (1, .int a1), (2, .int a2)] []
  have hf := hf
    (fun v0 v1 v2 s0 s1 M => V l G X 0 0 M 34 [(0, .ref v0), (1, .int v1), (2, .int v2)] [.int s0, .ref s1])
    (by
      intro v0 v1 v2 s0 s1 M hf
      show V l G X 0 0 M 34 [(0, .ref v0), (1, .int v1), (2, .int v2)] [.int s0, .ref s1]
      refine r_iconst (v := 2) h dX10_letter_34 (by decide) ?_
      obtain ⟨k13, hf⟩ := hf
      refine c1929 hl h dX10_letter_35 k13 hf (Nat.le_of_ble_eq_true rfl) (by decide) (by decide) (fun x15 M14 hf => ?_)
      refine r_if_eq (tgt := 43) h dX10_letter_38 (by decide) (fun c16 => ?_) (fun c16 => ?_)
      · have hf := ite_t c16 hf
        refine r_iload_n h 2 dX10_letter_43 rfl rfl ?_
        refine r_bipush (v := 7) h dX10_letter_44 (by decide) ?_
        refine r_icmp_ge (tgt := 56) h dX10_letter_46 (by decide) (fun c17 => ?_) (fun c17 => ?_)
        · have hf := ite_t c17 hf
          refine r_aload_n h 0 dX10_letter_56 rfl rfl ?_
          refine r_iload_n h 1 dX10_letter_57 rfl rfl ?_
          obtain ⟨k18, hf⟩ := hf
          refine c2017 hl h dX10_letter_58 k18 hf (Nat.le_of_ble_eq_true rfl) (by decide) (by decide) (fun x20 M19 hf => ?_)
          refine r_istore_n (lv' := [(3, .int x20), (0, .ref v0), (1, .int v1), (2, .int v2)]) h dX10_letter_61 rfl (by decide) rfl ?_
          refine r_iload_n h 3 dX10_letter_62 rfl rfl ?_
          refine r_bipush (v := 7) h dX10_letter_63 (by decide) ?_
          refine r_icmp_ne (tgt := 72) h dX10_letter_65 (by decide) (fun c21 => ?_) (fun c21 => ?_)
          · have hf := ite_f c21 hf
            refine r_iload_n h 3 dX10_letter_72 rfl rfl ?_
            refine r_bipush (v := 8) h dX10_letter_73 (by decide) ?_
            refine r_icmp_ne (tgt := 95) h dX10_letter_75 (by decide) (fun c22 => ?_) (fun c22 => ?_)
            · have hf := ite_f c22 hf
              refine r_aload_n h 1 dX10_letter_95 rfl rfl ?_
              refine r_iload_n h 2 dX10_letter_96 rfl rfl ?_
              obtain ⟨k23, hf⟩ := hf
              refine c2041 hl h dX10_letter_97 k23 hf (Nat.le_of_ble_eq_true rfl) (by decide) (by decide) (fun x25 M24 hf => ?_)
              exact r_ireturn h hq dX10_letter_100 ⟨_, rfl, hf⟩
            · have hf := ite_t c22 hf
              refine r_iload_n h 0 dX10_letter_78 rfl rfl ?_
              refine r_if_ge (tgt := 86) h dX10_letter_79 (by decide) (fun c26 => ?_) (fun c26 => ?_)
              · have hf := ite_t c26 hf
                refine r_aload_n h 1 dX10_letter_86 rfl rfl ?_
                obtain ⟨k27, hf⟩ := hf
                obtain ⟨b28, e29, hf⟩ := hf
                refine g1625 h dX10_letter_87 k27 e29 ?_
                refine r_iload_n h 0 dX10_letter_90 rfl rfl ?_
                obtain ⟨j30, hf⟩ := hf
                refine r_iaload h dX10_letter_91 j30 ?_
                refine r_goto (tgt := 100) h dX10_letter_92 (by decide) ?_
                exact r_ireturn h hq dX10_letter_100 ⟨_, rfl, hf⟩
              · have hf := ite_f c26 hf
                refine r_iconst (v := (-1)) h dX10_letter_82 (by decide) ?_
                refine r_goto (tgt := 100) h dX10_letter_83 (by decide) ?_
                exact r_ireturn h hq dX10_letter_100 ⟨_, rfl, hf⟩
          · have hf := ite_t c21 hf
            refine r_iload_n h 0 dX10_letter_68 rfl rfl ?_
            refine r_goto (tgt := 100) h dX10_letter_69 (by decide) ?_
            exact r_ireturn h hq dX10_letter_100 ⟨_, rfl, hf⟩
        · have hf := ite_f c17 hf
          refine r_aload_n h 0 dX10_letter_49 rfl rfl ?_
          refine r_iload_n h 1 dX10_letter_50 rfl rfl ?_
          refine r_iload_n h 2 dX10_letter_51 rfl rfl ?_
          obtain ⟨k31, hf⟩ := hf
          refine c2005 hl h dX10_letter_52 k31 hf (Nat.le_of_ble_eq_true rfl) (by decide) (by decide) (fun x33 M32 hf => ?_)
          exact r_ireturn h hq dX10_letter_55 ⟨_, rfl, hf⟩
      · have hf := ite_f c16 hf
        refine r_iconst (v := 0) h dX10_letter_41 (by decide) ?_
        exact r_ireturn h hq dX10_letter_42 ⟨_, rfl, hf⟩)
  refine r_aload_n h 0 dX10_letter_0 rfl rfl ?_
  refine r_iconst (v := 0) h dX10_letter_1 (by decide) ?_
  obtain ⟨k1, hf⟩ := hf
  refine p1597 h dX10_letter_2 k1 ?_
  refine r_goW (fun M2 eM2 => ?_)
  have hf := hf M2 eM2
  refine r_aload_n h 0 dX10_letter_5 rfl rfl ?_
  refine r_aload_n h 0 dX10_letter_6 rfl rfl ?_
  refine r_iload_n h 1 dX10_letter_7 rfl rfl ?_
  obtain ⟨k3, hf⟩ := hf
  refine c2037 hl h dX10_letter_8 k3 hf (Nat.le_of_ble_eq_true rfl) (by decide) (by decide) (fun x5 M4 hf => ?_)
  refine r_iconst (v := 1) h dX10_letter_11 (by decide) ?_
  obtain ⟨k6, hf⟩ := hf
  refine c1929 hl h dX10_letter_12 k6 hf (Nat.le_of_ble_eq_true rfl) (by decide) (by decide) (fun x8 M7 hf => ?_)
  refine r_if_ne (tgt := 41) h dX10_letter_15 (by decide) (fun c9 => ?_) (fun c9 => ?_)
  · have hf := ite_f c9 hf
    refine r_iconst (v := 0) h dX10_letter_41 (by decide) ?_
    exact r_ireturn h hq dX10_letter_42 ⟨_, rfl, hf⟩
  · have hf := ite_t c9 hf
    refine r_aload_n h 0 dX10_letter_18 rfl rfl ?_
    refine r_iload_n h 2 dX10_letter_19 rfl rfl ?_
    refine r_iconst (v := 0) h dX10_letter_20 (by decide) ?_
    refine r_bipush (v := 9) h dX10_letter_21 (by decide) ?_
    refine c1944 hl h dX10_letter_23 hf (Nat.le_of_ble_eq_true rfl) (by decide) (by decide) (fun x11 M10 hf => ?_)
    refine r_if_ne (tgt := 33) h dX10_letter_26 (by decide) (fun c12 => ?_) (fun c12 => ?_)
    · have hf := ite_f c12 hf
      refine r_iconst (v := 0) h dX10_letter_33 (by decide) ?_
      exact V.sub [0, 1, 2] rfl hf
    · have hf := ite_t c12 hf
      refine r_iconst (v := 1) h dX10_letter_29 (by decide) ?_
      refine r_goto (tgt := 34) h dX10_letter_30 (by decide) ?_
      exact V.sub [0, 1, 2] rfl hf
theorem c2033 {l : Launch} {G : gG} {X : gX} {cc : ByteArray} {nL F L bc bs pc : Nat} {M : gM} {lv : List (Nat × Value)} {rest : List Value} {a0 : Nat} {a1 : Int32} {a2 : Int32} {K : Int32 → gM → Prop} (hl : l.stackTraces = false) (h : hX l G X cc nL "GlacierMailLaw" F L) (d : decode cc pc = .ok (.invokevirtual 182, 3)) (hk : kd M a0 = some (.inl 10)) (hf : f_X10_letter a0 a1 a2 M K) (hst : (rest.map fun v => v.category).sum ≤ 8) (hF : 9 ≤ F) (hL : 212 ≤ L) (kk : ∀ x M1, K x M1 → V l G X bc bs M1 (pc + 3) lv (.int x :: rest)) : V l G X bc bs M pc lv (.int a2 :: .int a1 :: .ref a0 :: rest) := r_callV (n := 2) (As := [.int a1, .int a2]) h (m_X10_letter hl hf) 10 rfl hk rfl ⟨by decide, by decide, by decide +kernel⟩ d q2033 q2034 q2035 q147 q2036 rfl rfl hst hF hL (Nat.zero_le _) (Nat.zero_le _) (kI_go kk) kN_go
def f_X10_where (a0 : Nat) (a1 : Int32) (a2 : Int32) (M : gM) (K : Int32 → gM → Prop) : Prop :=
  kd M a0 = some (.inl 10) ∧ ∀ M2, M2 = sI M a0 0 0 → kd M2 a0 = some (.inl 10) ∧ f_X10_noLetter a0 a1 M2 (fun x5 M4 => kd M4 a0 = some (.inl 10) ∧ f_X10_throwsIf a0 x5 1 M4 (fun x8 M7 => if x8 = 0 then f_X10_noYear a2 M7 (fun x11 M10 => kd M10 a0 = some (.inl 10) ∧ f_X10_throwsIf a0 x11 2 M10 (fun x14 M13 => if x14 = 0 then kd M13 a0 = some (.inl 10) ∧ f_X10_runsLetter a0 a1 (-1) M13 (fun M17 => kd M17 a0 = some (.inl 10) ∧ ∃ b19, rv M17 a0 27 = some b19 ∧ inA M17 b19 0 a2 ∧ K (iv M17 b19 (ix a2)) M17) else K 0 M13)) else K 0 M7))
set_option maxHeartbeats 4000000 in
theorem m_X10_where {l : Launch} (hl : l.stackTraces = false) {G : gG} {a0 : Nat} {a1 : Int32} {a2 : Int32} {M : gM} {K : Int32 → gM → Prop} (hf : f_X10_where a0 a1 a2 M K) : gMet l G yX10_where (ws_ yX10_where cX10_where 3 (some Jvm.ClassFile.FieldType.int)) ({ frames := 7, cells := 0, slots := 0, locals := 168 }) M [.ref a0, .int a1, .int a2] (kI K) kN := by
  refine gm_of hl (ret := (some Jvm.ClassFile.FieldType.int)) rfl (Nat.le_of_ble_eq_true rfl) (fun X h hq => ?_)
  have h : hX l G X cX10_where 3 "GlacierMailModel" 7 168 := h
  have hf := hf
  show V l G X 0 0 M 0 [(0, .ref a0), (1, .int a1), (2, .int a2)] []
  unfold f_X10_where at hf
  refine r_aload_n h 0 dX10_where_0 rfl rfl ?_
  refine r_iconst (v := 0) h dX10_where_1 (by decide) ?_
  obtain ⟨k1, hf⟩ := hf
  refine p1597 h dX10_where_2 k1 ?_
  refine r_goW (fun M2 eM2 => ?_)
  have hf := hf M2 eM2
  refine r_aload_n h 0 dX10_where_5 rfl rfl ?_
  refine r_aload_n h 0 dX10_where_6 rfl rfl ?_
  refine r_iload_n h 1 dX10_where_7 rfl rfl ?_
  obtain ⟨k3, hf⟩ := hf
  refine c2037 hl h dX10_where_8 k3 hf (Nat.le_of_ble_eq_true rfl) (by decide) (by decide) (fun x5 M4 hf => ?_)
  refine r_iconst (v := 1) h dX10_where_11 (by decide) ?_
  obtain ⟨k6, hf⟩ := hf
  refine c1929 hl h dX10_where_12 k6 hf (Nat.le_of_ble_eq_true rfl) (by decide) (by decide) (fun x8 M7 hf => ?_)
  refine r_if_ne (tgt := 30) h dX10_where_15 (by decide) (fun c9 => ?_) (fun c9 => ?_)
  · have hf := ite_f c9 hf
    refine r_iconst (v := 0) h dX10_where_30 (by decide) ?_
    exact r_ireturn h hq dX10_where_31 ⟨_, rfl, hf⟩
  · have hf := ite_t c9 hf
    refine r_aload_n h 0 dX10_where_18 rfl rfl ?_
    refine r_iload_n h 2 dX10_where_19 rfl rfl ?_
    refine c1941 hl h dX10_where_20 hf (Nat.le_of_ble_eq_true rfl) (by decide) (by decide) (fun x11 M10 hf => ?_)
    refine r_iconst (v := 2) h dX10_where_23 (by decide) ?_
    obtain ⟨k12, hf⟩ := hf
    refine c1929 hl h dX10_where_24 k12 hf (Nat.le_of_ble_eq_true rfl) (by decide) (by decide) (fun x14 M13 hf => ?_)
    refine r_if_eq (tgt := 32) h dX10_where_27 (by decide) (fun c15 => ?_) (fun c15 => ?_)
    · have hf := ite_t c15 hf
      refine r_aload_n h 0 dX10_where_32 rfl rfl ?_
      refine r_iload_n h 1 dX10_where_33 rfl rfl ?_
      refine r_iconst (v := (-1)) h dX10_where_34 (by decide) ?_
      obtain ⟨k16, hf⟩ := hf
      refine c2021 hl h dX10_where_35 k16 hf (Nat.le_of_ble_eq_true rfl) (by decide) (by decide) (fun M17 hf => ?_)
      refine r_aload_n h 0 dX10_where_38 rfl rfl ?_
      obtain ⟨k18, hf⟩ := hf
      obtain ⟨b19, e20, hf⟩ := hf
      refine g1624 h dX10_where_39 k18 e20 ?_
      refine r_iload_n h 2 dX10_where_42 rfl rfl ?_
      obtain ⟨j21, hf⟩ := hf
      refine r_iaload h dX10_where_43 j21 ?_
      exact r_ireturn h hq dX10_where_44 ⟨_, rfl, hf⟩
    · have hf := ite_f c15 hf
      refine r_iconst (v := 0) h dX10_where_30 (by decide) ?_
      exact r_ireturn h hq dX10_where_31 ⟨_, rfl, hf⟩
theorem c2053 {l : Launch} {G : gG} {X : gX} {cc : ByteArray} {nL F L bc bs pc : Nat} {M : gM} {lv : List (Nat × Value)} {rest : List Value} {a0 : Nat} {a1 : Int32} {a2 : Int32} {K : Int32 → gM → Prop} (hl : l.stackTraces = false) (h : hX l G X cc nL "GlacierMailLaw" F L) (d : decode cc pc = .ok (.invokevirtual 185, 3)) (hk : kd M a0 = some (.inl 10)) (hf : f_X10_where a0 a1 a2 M K) (hst : (rest.map fun v => v.category).sum ≤ 8) (hF : 8 ≤ F) (hL : 190 ≤ L) (kk : ∀ x M1, K x M1 → V l G X bc bs M1 (pc + 3) lv (.int x :: rest)) : V l G X bc bs M pc lv (.int a2 :: .int a1 :: .ref a0 :: rest) := r_callV (n := 2) (As := [.int a1, .int a2]) h (m_X10_where hl hf) 10 rfl hk rfl ⟨by decide, by decide, by decide +kernel⟩ d q2053 q2054 q2055 q147 q2056 rfl rfl hst hF hL (Nat.zero_le _) (Nat.zero_le _) (kI_go kk) kN_go
def f_X10_deep (a0 : Nat) (a1 : Int32) (a2 : Int32) (M : gM) (K : Int32 → gM → Prop) : Prop :=
  kd M a0 = some (.inl 10) ∧ ∀ M2, M2 = sI M a0 0 0 → kd M2 a0 = some (.inl 10) ∧ f_X10_noLetter a0 a1 M2 (fun x5 M4 => kd M4 a0 = some (.inl 10) ∧ f_X10_throwsIf a0 x5 1 M4 (fun x8 M7 => if x8 = 0 then f_X10_noYear a2 M7 (fun x11 M10 => kd M10 a0 = some (.inl 10) ∧ f_X10_throwsIf a0 x11 2 M10 (fun x14 M13 => if x14 = 0 then kd M13 a0 = some (.inl 10) ∧ f_X10_runsLetter a0 a1 (-1) M13 (fun M17 => kd M17 a0 = some (.inl 10) ∧ ∃ b19, rv M17 a0 28 = some b19 ∧ inA M17 b19 0 a2 ∧ K (iv M17 b19 (ix a2)) M17) else K 0 M13)) else K 0 M7))
set_option maxHeartbeats 4000000 in
theorem m_X10_deep {l : Launch} (hl : l.stackTraces = false) {G : gG} {a0 : Nat} {a1 : Int32} {a2 : Int32} {M : gM} {K : Int32 → gM → Prop} (hf : f_X10_deep a0 a1 a2 M K) : gMet l G yX10_deep (ws_ yX10_deep cX10_deep 3 (some Jvm.ClassFile.FieldType.int)) ({ frames := 7, cells := 0, slots := 0, locals := 168 }) M [.ref a0, .int a1, .int a2] (kI K) kN := by
  refine gm_of hl (ret := (some Jvm.ClassFile.FieldType.int)) rfl (Nat.le_of_ble_eq_true rfl) (fun X h hq => ?_)
  have h : hX l G X cX10_deep 3 "GlacierMailModel" 7 168 := h
  have hf := hf
  show V l G X 0 0 M 0 [(0, .ref a0), (1, .int a1), (2, .int a2)] []
  unfold f_X10_deep at hf
  refine r_aload_n h 0 dX10_deep_0 rfl rfl ?_
  refine r_iconst (v := 0) h dX10_deep_1 (by decide) ?_
  obtain ⟨k1, hf⟩ := hf
  refine p1597 h dX10_deep_2 k1 ?_
  refine r_goW (fun M2 eM2 => ?_)
  have hf := hf M2 eM2
  refine r_aload_n h 0 dX10_deep_5 rfl rfl ?_
  refine r_aload_n h 0 dX10_deep_6 rfl rfl ?_
  refine r_iload_n h 1 dX10_deep_7 rfl rfl ?_
  obtain ⟨k3, hf⟩ := hf
  refine c2037 hl h dX10_deep_8 k3 hf (Nat.le_of_ble_eq_true rfl) (by decide) (by decide) (fun x5 M4 hf => ?_)
  refine r_iconst (v := 1) h dX10_deep_11 (by decide) ?_
  obtain ⟨k6, hf⟩ := hf
  refine c1929 hl h dX10_deep_12 k6 hf (Nat.le_of_ble_eq_true rfl) (by decide) (by decide) (fun x8 M7 hf => ?_)
  refine r_if_ne (tgt := 30) h dX10_deep_15 (by decide) (fun c9 => ?_) (fun c9 => ?_)
  · have hf := ite_f c9 hf
    refine r_iconst (v := 0) h dX10_deep_30 (by decide) ?_
    exact r_ireturn h hq dX10_deep_31 ⟨_, rfl, hf⟩
  · have hf := ite_t c9 hf
    refine r_aload_n h 0 dX10_deep_18 rfl rfl ?_
    refine r_iload_n h 2 dX10_deep_19 rfl rfl ?_
    refine c1941 hl h dX10_deep_20 hf (Nat.le_of_ble_eq_true rfl) (by decide) (by decide) (fun x11 M10 hf => ?_)
    refine r_iconst (v := 2) h dX10_deep_23 (by decide) ?_
    obtain ⟨k12, hf⟩ := hf
    refine c1929 hl h dX10_deep_24 k12 hf (Nat.le_of_ble_eq_true rfl) (by decide) (by decide) (fun x14 M13 hf => ?_)
    refine r_if_eq (tgt := 32) h dX10_deep_27 (by decide) (fun c15 => ?_) (fun c15 => ?_)
    · have hf := ite_t c15 hf
      refine r_aload_n h 0 dX10_deep_32 rfl rfl ?_
      refine r_iload_n h 1 dX10_deep_33 rfl rfl ?_
      refine r_iconst (v := (-1)) h dX10_deep_34 (by decide) ?_
      obtain ⟨k16, hf⟩ := hf
      refine c2021 hl h dX10_deep_35 k16 hf (Nat.le_of_ble_eq_true rfl) (by decide) (by decide) (fun M17 hf => ?_)
      refine r_aload_n h 0 dX10_deep_38 rfl rfl ?_
      obtain ⟨k18, hf⟩ := hf
      obtain ⟨b19, e20, hf⟩ := hf
      refine g1625 h dX10_deep_39 k18 e20 ?_
      refine r_iload_n h 2 dX10_deep_42 rfl rfl ?_
      obtain ⟨j21, hf⟩ := hf
      refine r_iaload h dX10_deep_43 j21 ?_
      exact r_ireturn h hq dX10_deep_44 ⟨_, rfl, hf⟩
    · have hf := ite_f c15 hf
      refine r_iconst (v := 0) h dX10_deep_30 (by decide) ?_
      exact r_ireturn h hq dX10_deep_31 ⟨_, rfl, hf⟩
theorem c2057 {l : Launch} {G : gG} {X : gX} {cc : ByteArray} {nL F L bc bs pc : Nat} {M : gM} {lv : List (Nat × Value)} {rest : List Value} {a0 : Nat} {a1 : Int32} {a2 : Int32} {K : Int32 → gM → Prop} (hl : l.stackTraces = false) (h : hX l G X cc nL "GlacierMailLaw" F L) (d : decode cc pc = .ok (.invokevirtual 188, 3)) (hk : kd M a0 = some (.inl 10)) (hf : f_X10_deep a0 a1 a2 M K) (hst : (rest.map fun v => v.category).sum ≤ 8) (hF : 8 ≤ F) (hL : 190 ≤ L) (kk : ∀ x M1, K x M1 → V l G X bc bs M1 (pc + 3) lv (.int x :: rest)) : V l G X bc bs M pc lv (.int a2 :: .int a1 :: .ref a0 :: rest) := r_callV (n := 2) (As := [.int a1, .int a2]) h (m_X10_deep hl hf) 10 rfl hk rfl ⟨by decide, by decide, by decide +kernel⟩ d q2057 q2058 q2059 q147 q2060 rfl rfl hst hF hL (Nat.zero_le _) (Nat.zero_le _) (kI_go kk) kN_go
def f_X10_remembers (a0 : Nat) (M : gM) (K : gM → Prop) : Prop :=
  ∀ P11 : Nat → Int32 → gM → Prop,
  ∀ P55 : Nat → Int32 → gM → Prop,
  (∀ (v0 : Nat) (v1 : Int32) (M : gM), (if 4345 ≤ v1 then P55 v0 0 M else kd M v0 = some (.inl 10) ∧ ∃ b6, rv M v0 4 = some b6 ∧ ∃ b8, rv M v0 4 = some b8 ∧ inA M b8 0 (v1 + 395) ∧ inA M b6 0 v1 ∧ ∀ M12, M12 = sI M b6 (ix v1) (iv M b8 (ix (v1 + 395))) → P11 v0 (v1 + 1) M12) → P11 v0 v1 M) →
  (∀ (v0 : Nat) (v1 : Int32) (M : gM), (if 395 ≤ v1 then K M else kd M v0 = some (.inl 10) ∧ ∃ b15, rv M v0 4 = some b15 ∧ ∃ b17, rv M v0 1 = some b17 ∧ inA M b17 0 v1 ∧ inA M b15 0 (((395 : Int32) * ((iv M v0 6) - 1)) + v1) ∧ ∀ M21, M21 = sI M b15 (ix (((395 : Int32) * ((iv M v0 6) - 1)) + v1)) (iv M b17 (ix v1)) → P55 v0 (v1 + 1) M21) → P55 v0 v1 M) →
  kd M a0 = some (.inl 10) ∧ if (iv M a0 6) = 12 then P11 a0 0 M else ∀ M3, M3 = sI M a0 6 ((iv M a0 6) + 1) → P55 a0 0 M3
set_option maxHeartbeats 4000000 in
theorem m_X10_remembers {l : Launch} (hl : l.stackTraces = false) {G : gG} {a0 : Nat} {M : gM} {K : gM → Prop} (hf : f_X10_remembers a0 M K) : gMet l G yX10_remembers (ws_ yX10_remembers cX10_remembers 2 none) ({ frames := 0, cells := 0, slots := 0, locals := 0 }) M [.ref a0] (kV K) kN := by
  refine gm_of hl (ret := none) rfl (Nat.le_of_ble_eq_true rfl) (fun X h hq => ?_)
  have h : hX l G X cX10_remembers 2 "GlacierMailModel" 0 0 := h
  have hf := hf
  show V l G X 0 0 M 0 [(0, .ref a0)] []
  have hf := hf
    (fun v0 v1 M => V l G X 0 0 M 11 [(0, .ref v0), (1, .int v1)] [])
    (fun v0 v1 M => V l G X 0 0 M 55 [(0, .ref v0), (1, .int v1)] [])
    (by
      intro v0 v1 M hf
      show V l G X 0 0 M 11 [(0, .ref v0), (1, .int v1)] []
      refine r_iload_n h 1 dX10_remembers_11 rfl rfl ?_
      refine r_sipush (v := 4345) h dX10_remembers_12 (by decide) ?_
      refine r_icmp_ge (tgt := 40) h dX10_remembers_15 (by decide) (fun c4 => ?_) (fun c4 => ?_)
      · have hf := ite_t c4 hf
        refine r_goto (tgt := 53) h dX10_remembers_40 (by decide) ?_
        refine r_iconst (v := 0) h dX10_remembers_53 (by decide) ?_
        refine r_istore_n (lv' := [(1, .int 0), (0, .ref v0)]) h dX10_remembers_54 rfl (by decide) rfl ?_
        exact V.sub [1, 0] rfl hf
      · have hf := ite_f c4 hf
        refine r_aload_n h 0 dX10_remembers_18 rfl rfl ?_
        obtain ⟨k5, hf⟩ := hf
        obtain ⟨b6, e7, hf⟩ := hf
        refine g1601 h dX10_remembers_19 k5 e7 ?_
        refine r_iload_n h 1 dX10_remembers_22 rfl rfl ?_
        refine r_aload_n h 0 dX10_remembers_23 rfl rfl ?_
        obtain ⟨b8, e9, hf⟩ := hf
        refine g1601 h dX10_remembers_24 k5 e9 ?_
        refine r_iload_n h 1 dX10_remembers_27 rfl rfl ?_
        refine r_sipush (v := 395) h dX10_remembers_28 (by decide) ?_
        refine r_iadd h dX10_remembers_31 ?_
        obtain ⟨j10, hf⟩ := hf
        refine r_iaload h dX10_remembers_32 j10 ?_
        obtain ⟨j11, hf⟩ := hf
        refine r_iastore h dX10_remembers_33 j11 ?_
        refine r_goW (fun M12 eM12 => ?_)
        have hf := hf M12 eM12
        refine r_iinc (v := v1 + 1) (lv' := [(1, .int (v1 + 1)), (0, .ref v0)]) h 1 dX10_remembers_34 rfl rfl (by decide) rfl ?_
        refine r_goto (tgt := 11) h dX10_remembers_37 (by decide) ?_
        exact V.sub [1, 0] rfl hf)
    (by
      intro v0 v1 M hf
      show V l G X 0 0 M 55 [(0, .ref v0), (1, .int v1)] []
      refine r_iload_n h 1 dX10_remembers_55 rfl rfl ?_
      refine r_sipush (v := 395) h dX10_remembers_56 (by decide) ?_
      refine r_icmp_ge (tgt := 91) h dX10_remembers_59 (by decide) (fun c13 => ?_) (fun c13 => ?_)
      · have hf := ite_t c13 hf
        exact r_return h hq dX10_remembers_91 ⟨rfl, hf⟩
      · have hf := ite_f c13 hf
        refine r_aload_n h 0 dX10_remembers_62 rfl rfl ?_
        obtain ⟨k14, hf⟩ := hf
        obtain ⟨b15, e16, hf⟩ := hf
        refine g1601 h dX10_remembers_63 k14 e16 ?_
        refine r_sipush (v := 395) h dX10_remembers_66 (by decide) ?_
        refine r_aload_n h 0 dX10_remembers_69 rfl rfl ?_
        refine g1603 h dX10_remembers_70 k14 ?_
        refine r_iconst (v := 1) h dX10_remembers_73 (by decide) ?_
        refine r_isub h dX10_remembers_74 ?_
        refine r_imul h dX10_remembers_75 ?_
        refine r_iload_n h 1 dX10_remembers_76 rfl rfl ?_
        refine r_iadd h dX10_remembers_77 ?_
        refine r_aload_n h 0 dX10_remembers_78 rfl rfl ?_
        obtain ⟨b17, e18, hf⟩ := hf
        refine g1598 h dX10_remembers_79 k14 e18 ?_
        refine r_iload_n h 1 dX10_remembers_82 rfl rfl ?_
        obtain ⟨j19, hf⟩ := hf
        refine r_iaload h dX10_remembers_83 j19 ?_
        obtain ⟨j20, hf⟩ := hf
        refine r_iastore h dX10_remembers_84 j20 ?_
        refine r_goW (fun M21 eM21 => ?_)
        have hf := hf M21 eM21
        refine r_iinc (v := v1 + 1) (lv' := [(1, .int (v1 + 1)), (0, .ref v0)]) h 1 dX10_remembers_85 rfl rfl (by decide) rfl ?_
        refine r_goto (tgt := 55) h dX10_remembers_88 (by decide) ?_
        exact V.sub [1, 0] rfl hf)
  refine r_aload_n h 0 dX10_remembers_0 rfl rfl ?_
  obtain ⟨k1, hf⟩ := hf
  refine g1603 h dX10_remembers_1 k1 ?_
  refine r_bipush (v := 12) h dX10_remembers_4 (by decide) ?_
  refine r_icmp_ne (tgt := 43) h dX10_remembers_6 (by decide) (fun c2 => ?_) (fun c2 => ?_)
  · have hf := ite_f c2 hf
    refine r_aload_n h 0 dX10_remembers_43 rfl rfl ?_
    refine r_dup h dX10_remembers_44 rfl ?_
    refine g1603 h dX10_remembers_45 k1 ?_
    refine r_iconst (v := 1) h dX10_remembers_48 (by decide) ?_
    refine r_iadd h dX10_remembers_49 ?_
    refine p1603 h dX10_remembers_50 k1 ?_
    refine r_goW (fun M3 eM3 => ?_)
    have hf := hf M3 eM3
    refine r_iconst (v := 0) h dX10_remembers_53 (by decide) ?_
    refine r_istore_n (lv' := [(1, .int 0), (0, .ref a0)]) h dX10_remembers_54 rfl (by decide) rfl ?_
    exact V.sub [1, 0] rfl hf
  · have hf := ite_t c2 hf
    refine r_iconst (v := 0) h dX10_remembers_9 (by decide) ?_
    refine r_istore_n (lv' := [(1, .int 0), (0, .ref a0)]) h dX10_remembers_10 rfl (by decide) rfl ?_
    exact V.sub [1, 0] rfl hf
theorem c2065 {l : Launch} {G : gG} {X : gX} {cc : ByteArray} {nL F L bc bs pc : Nat} {M : gM} {lv : List (Nat × Value)} {rest : List Value} {a0 : Nat} {K : gM → Prop} (hl : l.stackTraces = false) (h : hX l G X cc nL "GlacierMailModel" F L) (d : decode cc pc = .ok (.invokevirtual 411, 3)) (hk : kd M a0 = some (.inl 10)) (hf : f_X10_remembers a0 M K) (hst : (rest.map fun v => v.category).sum ≤ 8) (hF : 1 ≤ F) (hL : 21 ≤ L) (kk : ∀ M1, K M1 → V l G X bc bs M1 (pc + 3) lv rest) : V l G X bc bs M pc lv (.ref a0 :: rest) := r_callV (n := 0) (As := []) h (m_X10_remembers hl hf) 10 rfl hk rfl ⟨by decide, by decide, by decide +kernel⟩ d q2065 q2067 qs114 q147 q2068 rfl rfl hst hF hL (Nat.zero_le _) (Nat.zero_le _) (kV_go kk) kN_go
def f_X10_post (a0 : Nat) (a1 : Int32) (a2 : Int32) (M : gM) (K : Int32 → gM → Prop) : Prop :=
  ∀ P27 : Nat → Int32 → Int32 → Int32 → Nat → gM → Prop,
  ∀ P45 : Nat → Int32 → Int32 → Int32 → Nat → gM → Prop,
  ∀ P67 : Nat → Int32 → Int32 → Int32 → Nat → gM → Prop,
  (∀ (v0 : Nat) (v1 : Int32) (v2 : Int32) (s0 : Int32) (s1 : Nat) (M : gM), (kd M s1 = some (.inl 10) ∧ f_X10_throwsIf s1 s0 1 M (fun x13 M12 => if x13 = 0 then if v1 = v2 then P45 v0 v1 v2 1 v0 M12 else P45 v0 v1 v2 0 v0 M12 else K 0 M12)) → P27 v0 v1 v2 s0 s1 M) →
  (∀ (v0 : Nat) (v1 : Int32) (v2 : Int32) (s0 : Int32) (s1 : Nat) (M : gM), (kd M s1 = some (.inl 10) ∧ f_X10_throwsIf s1 s0 2 M (fun x18 M17 => if x18 = 0 then kd M17 v0 = some (.inl 10) ∧ f_X10_letters v0 M17 (fun x22 M21 => if x22 = 24 then P67 v0 v1 v2 1 v0 M21 else P67 v0 v1 v2 0 v0 M21) else K 0 M17)) → P45 v0 v1 v2 s0 s1 M) →
  (∀ (v0 : Nat) (v1 : Int32) (v2 : Int32) (s0 : Int32) (s1 : Nat) (M : gM), (kd M s1 = some (.inl 10) ∧ f_X10_throwsIf s1 s0 3 M (fun x26 M25 => if x26 = 0 then kd M25 v0 = some (.inl 10) ∧ f_X10_remembers v0 M25 (fun M29 => kd M29 v0 = some (.inl 10) ∧ f_X10_of v0 v1 0 M29 (fun x32 M31 => kd M31 v0 = some (.inl 10) ∧ f_X10_of v0 v1 1 M31 (fun x35 M34 => kd M34 v0 = some (.inl 10) ∧ f_X10_throwsIn v0 v1 v2 x32 x35 M34 (fun M37 => kd M37 v0 = some (.inl 10) ∧ f_X10_letters v0 M37 (fun x40 M39 => K (x40 - 1) M39))))) else K 0 M25)) → P67 v0 v1 v2 s0 s1 M) →
  kd M a0 = some (.inl 10) ∧ ∀ M2, M2 = sI M a0 0 0 → kd M2 a0 = some (.inl 10) ∧ f_X10_noPerson a0 a1 M2 (fun x5 M4 => if x5 = 0 then kd M4 a0 = some (.inl 10) ∧ f_X10_noPerson a0 a2 M4 (fun x9 M8 => if x9 = 0 then P27 a0 a1 a2 0 a0 M8 else P27 a0 a1 a2 1 a0 M8) else P27 a0 a1 a2 1 a0 M4)
set_option maxHeartbeats 4000000 in
theorem m_X10_post {l : Launch} (hl : l.stackTraces = false) {G : gG} {a0 : Nat} {a1 : Int32} {a2 : Int32} {M : gM} {K : Int32 → gM → Prop} (hf : f_X10_post a0 a1 a2 M K) : gMet l G yX10_post (ws_ yX10_post cX10_post 3 (some Jvm.ClassFile.FieldType.int)) ({ frames := 2, cells := 0, slots := 0, locals := 48 }) M [.ref a0, .int a1, .int a2] (kI K) kN := by
  refine gm_of hl (ret := (some Jvm.ClassFile.FieldType.int)) rfl (Nat.le_of_ble_eq_true rfl) (fun X h hq => ?_)
  have h : hX l G X cX10_post 3 "GlacierMailModel" 2 48 := h
  have hf := hf
  show V l G X 0 0 M 0 [(0, .ref a0), (1, .int a1), (2, .int a2)] []
  have hf := hf
    (fun v0 v1 v2 s0 s1 M => V l G X 0 0 M 27 [(0, .ref v0), (1, .int v1), (2, .int v2)] [.int s0, .ref s1])
    (fun v0 v1 v2 s0 s1 M => V l G X 0 0 M 45 [(0, .ref v0), (1, .int v1), (2, .int v2)] [.int s0, .ref s1])
    (fun v0 v1 v2 s0 s1 M => V l G X 0 0 M 67 [(0, .ref v0), (1, .int v1), (2, .int v2)] [.int s0, .ref s1])
    (by
      intro v0 v1 v2 s0 s1 M hf
      show V l G X 0 0 M 27 [(0, .ref v0), (1, .int v1), (2, .int v2)] [.int s0, .ref s1]
      refine r_iconst (v := 1) h dX10_post_27 (by decide) ?_
      obtain ⟨k11, hf⟩ := hf
      refine c1929 hl h dX10_post_28 k11 hf (Nat.le_of_ble_eq_true rfl) (by decide) (by decide) (fun x13 M12 hf => ?_)
      refine r_if_ne (tgt := 74) h dX10_post_31 (by decide) (fun c14 => ?_) (fun c14 => ?_)
      · have hf := ite_f c14 hf
        refine r_iconst (v := 0) h dX10_post_74 (by decide) ?_
        exact r_ireturn h hq dX10_post_75 ⟨_, rfl, hf⟩
      · have hf := ite_t c14 hf
        refine r_aload_n h 0 dX10_post_34 rfl rfl ?_
        refine r_iload_n h 1 dX10_post_35 rfl rfl ?_
        refine r_iload_n h 2 dX10_post_36 rfl rfl ?_
        refine r_icmp_ne (tgt := 44) h dX10_post_37 (by decide) (fun c15 => ?_) (fun c15 => ?_)
        · have hf := ite_f c15 hf
          refine r_iconst (v := 0) h dX10_post_44 (by decide) ?_
          exact V.sub [0, 1, 2] rfl hf
        · have hf := ite_t c15 hf
          refine r_iconst (v := 1) h dX10_post_40 (by decide) ?_
          refine r_goto (tgt := 45) h dX10_post_41 (by decide) ?_
          exact V.sub [0, 1, 2] rfl hf)
    (by
      intro v0 v1 v2 s0 s1 M hf
      show V l G X 0 0 M 45 [(0, .ref v0), (1, .int v1), (2, .int v2)] [.int s0, .ref s1]
      refine r_iconst (v := 2) h dX10_post_45 (by decide) ?_
      obtain ⟨k16, hf⟩ := hf
      refine c1929 hl h dX10_post_46 k16 hf (Nat.le_of_ble_eq_true rfl) (by decide) (by decide) (fun x18 M17 hf => ?_)
      refine r_if_ne (tgt := 74) h dX10_post_49 (by decide) (fun c19 => ?_) (fun c19 => ?_)
      · have hf := ite_f c19 hf
        refine r_iconst (v := 0) h dX10_post_74 (by decide) ?_
        exact r_ireturn h hq dX10_post_75 ⟨_, rfl, hf⟩
      · have hf := ite_t c19 hf
        refine r_aload_n h 0 dX10_post_52 rfl rfl ?_
        refine r_aload_n h 0 dX10_post_53 rfl rfl ?_
        obtain ⟨k20, hf⟩ := hf
        refine c1790 hl h dX10_post_54 k20 hf (Nat.le_of_ble_eq_true rfl) (by decide) (by decide) (fun x22 M21 hf => ?_)
        refine r_bipush (v := 24) h dX10_post_57 (by decide) ?_
        refine r_icmp_ne (tgt := 66) h dX10_post_59 (by decide) (fun c23 => ?_) (fun c23 => ?_)
        · have hf := ite_f c23 hf
          refine r_iconst (v := 0) h dX10_post_66 (by decide) ?_
          exact V.sub [0, 1, 2] rfl hf
        · have hf := ite_t c23 hf
          refine r_iconst (v := 1) h dX10_post_62 (by decide) ?_
          refine r_goto (tgt := 67) h dX10_post_63 (by decide) ?_
          exact V.sub [0, 1, 2] rfl hf)
    (by
      intro v0 v1 v2 s0 s1 M hf
      show V l G X 0 0 M 67 [(0, .ref v0), (1, .int v1), (2, .int v2)] [.int s0, .ref s1]
      refine r_iconst (v := 3) h dX10_post_67 (by decide) ?_
      obtain ⟨k24, hf⟩ := hf
      refine c1929 hl h dX10_post_68 k24 hf (Nat.le_of_ble_eq_true rfl) (by decide) (by decide) (fun x26 M25 hf => ?_)
      refine r_if_eq (tgt := 76) h dX10_post_71 (by decide) (fun c27 => ?_) (fun c27 => ?_)
      · have hf := ite_t c27 hf
        refine r_aload_n h 0 dX10_post_76 rfl rfl ?_
        obtain ⟨k28, hf⟩ := hf
        refine c2065 hl h dX10_post_77 k28 hf (Nat.le_of_ble_eq_true rfl) (by decide) (by decide) (fun M29 hf => ?_)
        refine r_aload_n h 0 dX10_post_80 rfl rfl ?_
        refine r_iload_n h 1 dX10_post_81 rfl rfl ?_
        refine r_iload_n h 2 dX10_post_82 rfl rfl ?_
        refine r_aload_n h 0 dX10_post_83 rfl rfl ?_
        refine r_iload_n h 1 dX10_post_84 rfl rfl ?_
        refine r_iconst (v := 0) h dX10_post_85 (by decide) ?_
        obtain ⟨k30, hf⟩ := hf
        refine c1997 hl h dX10_post_86 k30 hf (Nat.le_of_ble_eq_true rfl) (by decide) (by decide) (fun x32 M31 hf => ?_)
        refine r_aload_n h 0 dX10_post_89 rfl rfl ?_
        refine r_iload_n h 1 dX10_post_90 rfl rfl ?_
        refine r_iconst (v := 1) h dX10_post_91 (by decide) ?_
        obtain ⟨k33, hf⟩ := hf
        refine c1997 hl h dX10_post_92 k33 hf (Nat.le_of_ble_eq_true rfl) (by decide) (by decide) (fun x35 M34 hf => ?_)
        obtain ⟨k36, hf⟩ := hf
        refine c1866 hl h dX10_post_95 k36 hf (Nat.le_of_ble_eq_true rfl) (by decide) (by decide) (fun M37 hf => ?_)
        refine r_aload_n h 0 dX10_post_98 rfl rfl ?_
        obtain ⟨k38, hf⟩ := hf
        refine c1790 hl h dX10_post_99 k38 hf (Nat.le_of_ble_eq_true rfl) (by decide) (by decide) (fun x40 M39 hf => ?_)
        refine r_iconst (v := 1) h dX10_post_102 (by decide) ?_
        refine r_isub h dX10_post_103 ?_
        exact r_ireturn h hq dX10_post_104 ⟨_, rfl, hf⟩
      · have hf := ite_f c27 hf
        refine r_iconst (v := 0) h dX10_post_74 (by decide) ?_
        exact r_ireturn h hq dX10_post_75 ⟨_, rfl, hf⟩)
  refine r_aload_n h 0 dX10_post_0 rfl rfl ?_
  refine r_iconst (v := 0) h dX10_post_1 (by decide) ?_
  obtain ⟨k1, hf⟩ := hf
  refine p1597 h dX10_post_2 k1 ?_
  refine r_goW (fun M2 eM2 => ?_)
  have hf := hf M2 eM2
  refine r_aload_n h 0 dX10_post_5 rfl rfl ?_
  refine r_aload_n h 0 dX10_post_6 rfl rfl ?_
  refine r_iload_n h 1 dX10_post_7 rfl rfl ?_
  obtain ⟨k3, hf⟩ := hf
  refine c1993 hl h dX10_post_8 k3 hf (Nat.le_of_ble_eq_true rfl) (by decide) (by decide) (fun x5 M4 hf => ?_)
  refine r_if_ne (tgt := 22) h dX10_post_11 (by decide) (fun c6 => ?_) (fun c6 => ?_)
  · have hf := ite_f c6 hf
    refine r_iconst (v := 1) h dX10_post_22 (by decide) ?_
    refine r_goto (tgt := 27) h dX10_post_23 (by decide) ?_
    exact V.sub [0, 1, 2] rfl hf
  · have hf := ite_t c6 hf
    refine r_aload_n h 0 dX10_post_14 rfl rfl ?_
    refine r_iload_n h 2 dX10_post_15 rfl rfl ?_
    obtain ⟨k7, hf⟩ := hf
    refine c1993 hl h dX10_post_16 k7 hf (Nat.le_of_ble_eq_true rfl) (by decide) (by decide) (fun x9 M8 hf => ?_)
    refine r_if_eq (tgt := 26) h dX10_post_19 (by decide) (fun c10 => ?_) (fun c10 => ?_)
    · have hf := ite_t c10 hf
      refine r_iconst (v := 0) h dX10_post_26 (by decide) ?_
      exact V.sub [0, 1, 2] rfl hf
    · have hf := ite_f c10 hf
      refine r_iconst (v := 1) h dX10_post_22 (by decide) ?_
      refine r_goto (tgt := 27) h dX10_post_23 (by decide) ?_
      exact V.sub [0, 1, 2] rfl hf
theorem c2061 {l : Launch} {G : gG} {X : gX} {cc : ByteArray} {nL F L bc bs pc : Nat} {M : gM} {lv : List (Nat × Value)} {rest : List Value} {a0 : Nat} {a1 : Int32} {a2 : Int32} {K : Int32 → gM → Prop} (hl : l.stackTraces = false) (h : hX l G X cc nL "GlacierMailLaw" F L) (d : decode cc pc = .ok (.invokevirtual 191, 3)) (hk : kd M a0 = some (.inl 10)) (hf : f_X10_post a0 a1 a2 M K) (hst : (rest.map fun v => v.category).sum ≤ 8) (hF : 3 ≤ F) (hL : 70 ≤ L) (kk : ∀ x M1, K x M1 → V l G X bc bs M1 (pc + 3) lv (.int x :: rest)) : V l G X bc bs M pc lv (.int a2 :: .int a1 :: .ref a0 :: rest) := r_callV (n := 2) (As := [.int a1, .int a2]) h (m_X10_post hl hf) 10 rfl hk rfl ⟨by decide, by decide, by decide +kernel⟩ d q2061 q2062 q2063 q147 q2064 rfl rfl hst hF hL (Nat.zero_le _) (Nat.zero_le _) (kI_go kk) kN_go
