def f_X10_answers (a0 : Nat) (a1 : Int32) (M : gM) (K : gM → Prop) : Prop :=
  ∀ P2 : Nat → Int32 → Int32 → gM → Prop,
  ∀ P61 : Nat → Int32 → gM → Prop,
  ∀ P70 : Nat → Int32 → Int32 → gM → Prop,
  ∀ P135 : Nat → Int32 → Int32 → Int32 → Int32 → Int32 → gM → Prop,
  (∀ (v0 : Nat) (v1 : Int32) (v2 : Int32) (M : gM), (kd M v0 = some (.inl 10) ∧ ∃ b2, rv M v0 33 = some b2 ∧ ∃ n4, kd M b2 = some (.inr (0, n4)) ∧ if (nI n4) ≤ v2 then ∃ b7, rv M v0 33 = some b7 ∧ f_X10_now v0 M (fun x10 M9 => f_X10_at v1 x10 M9 (fun x12 M11 => inA M11 b7 0 x12 ∧ ∀ M14, M14 = sI M11 b7 (ix x12) 1 → kd M14 v0 = some (.inl 10) ∧ f_X10_now v0 M14 (fun x17 M16 => P61 v0 x17 M16))) else ∃ b18, rv M v0 33 = some b18 ∧ inA M b18 0 v2 ∧ ∀ M21, M21 = sI M b18 (ix v2) 1000 → kd M21 v0 = some (.inl 10) ∧ ∃ b23, rv M21 v0 34 = some b23 ∧ inA M21 b23 0 v2 ∧ ∀ M26, M26 = sI M21 b23 (ix v2) 1000 → kd M26 v0 = some (.inl 10) ∧ ∃ b28, rv M26 v0 35 = some b28 ∧ inA M26 b28 0 v2 ∧ ∀ M31, M31 = sI M26 b28 (ix v2) (-1) → P2 v0 v1 (v2 + 1) M31) → P2 v0 v1 v2 M) →
  (∀ (v0 : Nat) (v2 : Int32) (M : gM), (if 299 < v2 then K M else P70 v0 v2 0 M) → P61 v0 v2 M) →
  (∀ (v0 : Nat) (v2 : Int32) (v3 : Int32) (M : gM), (kd M v0 = some (.inl 10) ∧ f_X10_people v0 M (fun x35 M34 => if x35 ≤ v3 then P61 v0 (v2 + 1) M34 else kd M34 v0 = some (.inl 10) ∧ ∃ b38, rv M34 v0 33 = some b38 ∧ f_X10_at v3 v2 M34 (fun x41 M40 => inA M40 b38 0 x41 ∧ if (iv M40 b38 (ix x41)) = 1000 then P70 v0 v2 (v3 + 1) M40 else kd M40 v0 = some (.inl 10) ∧ f_X10_of v0 v3 0 M40 (fun x46 M45 => kd M45 v0 = some (.inl 10) ∧ f_X10_of v0 v3 1 M45 (fun x49 M48 => kd M48 v0 = some (.inl 10) ∧ f_X10_outFrom v0 x46 x49 v2 M48 (fun x52 M51 => kd M51 v0 = some (.inl 10) ∧ ∃ b54, rv M51 v0 35 = some b54 ∧ f_X10_at v3 v2 M51 (fun x57 M56 => inA M56 b54 0 x57 ∧ ∀ M59, M59 = sI M56 b54 (ix x57) x52 → P135 v0 v2 v3 (iv M40 b38 (ix x41)) x52 0 M59))))))) → P70 v0 v2 v3 M) →
  (∀ (v0 : Nat) (v2 : Int32) (v3 : Int32) (v4 : Int32) (v5 : Int32) (v6 : Int32) (M : gM), (kd M v0 = some (.inl 10) ∧ f_X10_people v0 M (fun x62 M61 => if x62 ≤ v6 then P70 v0 v2 (v3 + 1) M61 else if v5 < 0 then P70 v0 v2 (v3 + 1) M61 else kd M61 v0 = some (.inl 10) ∧ f_X10_isWatching v0 v6 v3 M61 (fun x67 M66 => if x67 = 0 then P135 v0 v2 v3 v4 v5 (v6 + 1) M66 else kd M66 v0 = some (.inl 10) ∧ ∃ b70, rv M66 v0 34 = some b70 ∧ f_X10_at v6 v5 M66 (fun x73 M72 => kd M72 v0 = some (.inl 10) ∧ ∃ b75, rv M72 v0 34 = some b75 ∧ f_X10_at v6 v5 M72 (fun x78 M77 => inA M77 b75 0 x78 ∧ ∀ x80, x80 = (if v4 < (iv M77 b75 (ix x78)) then v4 else (iv M77 b75 (ix x78))) → inA M77 b70 0 x73 ∧ ∀ M82, M82 = sI M77 b70 (ix x73) x80 → kd M82 v0 = some (.inl 10) ∧ ∃ b84, rv M82 v0 33 = some b84 ∧ f_X10_at v6 (v5 + 1) M82 (fun x87 M86 => kd M86 v0 = some (.inl 10) ∧ ∃ b89, rv M86 v0 33 = some b89 ∧ f_X10_at v6 (v5 + 1) M86 (fun x92 M91 => inA M91 b89 0 x92 ∧ ∀ x94, x94 = (if (v4 + 1) < (iv M91 b89 (ix x92)) then (v4 + 1) else (iv M91 b89 (ix x92))) → inA M91 b84 0 x87 ∧ ∀ M96, M96 = sI M91 b84 (ix x87) x94 → P135 v0 v2 v3 v4 v5 (v6 + 1) M96))))))) → P135 v0 v2 v3 v4 v5 v6 M) →
  P2 a0 a1 0 M
set_option maxHeartbeats 4000000 in
theorem m_X10_answers {l : Launch} (hl : l.stackTraces = false) {G : gG} {a0 : Nat} {a1 : Int32} {M : gM} {K : gM → Prop} (hf : f_X10_answers a0 a1 M K) : gMet l G yX10_answers (ws_ yX10_answers cX10_answers 7 none) ({ frames := 7, cells := 0, slots := 0, locals := 169 }) M [.ref a0, .int a1] (kV K) kN := by
  refine gm_of hl (ret := none) rfl (Nat.le_of_ble_eq_true rfl) (fun X h hq => ?_)
  have h : hX l G X cX10_answers 7 "GlacierMailModel" 7 169 := h
  have hf := hf
  show V l G X 0 0 M 0 [(0, .ref a0), (1, .int a1)] []
  have hf := hf
    (fun v0 v1 v2 M => V l G X 0 0 M 2 [(0, .ref v0), (1, .int v1), (2, .int v2)] [])
    (fun v0 v2 M => V l G X 0 0 M 61 [(0, .ref v0), (2, .int v2)] [])
    (fun v0 v2 v3 M => V l G X 0 0 M 70 [(0, .ref v0), (2, .int v2), (3, .int v3)] [])
    (fun v0 v2 v3 v4 v5 v6 M => V l G X 0 0 M 135 [(0, .ref v0), (2, .int v2), (3, .int v3), (4, .int v4), (5, .int v5), (6, .int v6)] [])
    (by
      intro v0 v1 v2 M hf
      show V l G X 0 0 M 2 [(0, .ref v0), (1, .int v1), (2, .int v2)] []
      refine r_iload_n h 2 dX10_answers_2 rfl rfl ?_
      refine r_aload_n h 0 dX10_answers_3 rfl rfl ?_
      obtain ⟨k1, hf⟩ := hf
      obtain ⟨b2, e3, hf⟩ := hf
      refine g1630 h dX10_answers_4 k1 e3 ?_
      obtain ⟨n4, k5, hf⟩ := hf
      refine r_alen h 0 n4 (by decide) dX10_answers_7 k5 ?_
      refine r_icmp_ge (tgt := 42) h dX10_answers_8 (by decide) (fun c6 => ?_) (fun c6 => ?_)
      · have hf := ite_t c6 hf
        refine r_aload_n h 0 dX10_answers_42 rfl rfl ?_
        obtain ⟨b7, e8, hf⟩ := hf
        refine g1630 h dX10_answers_43 k1 e8 ?_
        refine r_iload_n h 1 dX10_answers_46 rfl rfl ?_
        refine r_aload_n h 0 dX10_answers_47 rfl rfl ?_
        refine c1843 hl h dX10_answers_48 k1 hf (Nat.le_of_ble_eq_true rfl) (by decide) (by decide) (fun x10 M9 hf => ?_)
        refine c2205 hl h dX10_answers_51 hf (Nat.le_of_ble_eq_true rfl) (by decide) (by decide) (fun x12 M11 hf => ?_)
        refine r_iconst (v := 1) h dX10_answers_54 (by decide) ?_
        obtain ⟨j13, hf⟩ := hf
        refine r_iastore h dX10_answers_55 j13 ?_
        refine r_goW (fun M14 eM14 => ?_)
        have hf := hf M14 eM14
        refine r_aload_n h 0 dX10_answers_56 rfl rfl ?_
        obtain ⟨k15, hf⟩ := hf
        refine c1843 hl h dX10_answers_57 k15 hf (Nat.le_of_ble_eq_true rfl) (by decide) (by decide) (fun x17 M16 hf => ?_)
        refine r_istore_n (lv' := [(2, .int x17), (0, .ref v0), (1, .int v1)]) h dX10_answers_60 rfl (by decide) rfl ?_
        exact V.sub [1, 0] rfl hf
      · have hf := ite_f c6 hf
        refine r_aload_n h 0 dX10_answers_11 rfl rfl ?_
        obtain ⟨b18, e19, hf⟩ := hf
        refine g1630 h dX10_answers_12 k1 e19 ?_
        refine r_iload_n h 2 dX10_answers_15 rfl rfl ?_
        refine r_sipush (v := 1000) h dX10_answers_16 (by decide) ?_
        obtain ⟨j20, hf⟩ := hf
        refine r_iastore h dX10_answers_19 j20 ?_
        refine r_goW (fun M21 eM21 => ?_)
        have hf := hf M21 eM21
        refine r_aload_n h 0 dX10_answers_20 rfl rfl ?_
        obtain ⟨k22, hf⟩ := hf
        obtain ⟨b23, e24, hf⟩ := hf
        refine g1631 h dX10_answers_21 k22 e24 ?_
        refine r_iload_n h 2 dX10_answers_24 rfl rfl ?_
        refine r_sipush (v := 1000) h dX10_answers_25 (by decide) ?_
        obtain ⟨j25, hf⟩ := hf
        refine r_iastore h dX10_answers_28 j25 ?_
        refine r_goW (fun M26 eM26 => ?_)
        have hf := hf M26 eM26
        refine r_aload_n h 0 dX10_answers_29 rfl rfl ?_
        obtain ⟨k27, hf⟩ := hf
        obtain ⟨b28, e29, hf⟩ := hf
        refine g1632 h dX10_answers_30 k27 e29 ?_
        refine r_iload_n h 2 dX10_answers_33 rfl rfl ?_
        refine r_iconst (v := (-1)) h dX10_answers_34 (by decide) ?_
        obtain ⟨j30, hf⟩ := hf
        refine r_iastore h dX10_answers_35 j30 ?_
        refine r_goW (fun M31 eM31 => ?_)
        have hf := hf M31 eM31
        refine r_iinc (v := v2 + 1) (lv' := [(2, .int (v2 + 1)), (0, .ref v0), (1, .int v1)]) h 2 dX10_answers_36 rfl rfl (by decide) rfl ?_
        refine r_goto (tgt := 2) h dX10_answers_39 (by decide) ?_
        exact V.sub [1, 2, 0] rfl hf)
    (by
      intro v0 v2 M hf
      show V l G X 0 0 M 61 [(0, .ref v0), (2, .int v2)] []
      refine r_iload_n h 1 dX10_answers_61 rfl rfl ?_
      refine r_sipush (v := 299) h dX10_answers_62 (by decide) ?_
      refine r_icmp_gt (tgt := 244) h dX10_answers_65 (by decide) (fun c32 => ?_) (fun c32 => ?_)
      · have hf := ite_t c32 hf
        exact r_return h hq dX10_answers_244 ⟨rfl, hf⟩
      · have hf := ite_f c32 hf
        refine r_iconst (v := 0) h dX10_answers_68 (by decide) ?_
        refine r_istore_n (lv' := [(3, .int 0), (0, .ref v0), (2, .int v2)]) h dX10_answers_69 rfl (by decide) rfl ?_
        exact V.sub [1, 2, 0] rfl hf)
    (by
      intro v0 v2 v3 M hf
      show V l G X 0 0 M 70 [(0, .ref v0), (2, .int v2), (3, .int v3)] []
      refine r_iload_n h 2 dX10_answers_70 rfl rfl ?_
      refine r_aload_n h 0 dX10_answers_71 rfl rfl ?_
      obtain ⟨k33, hf⟩ := hf
      refine c1786 hl h dX10_answers_72 k33 hf (Nat.le_of_ble_eq_true rfl) (by decide) (by decide) (fun x35 M34 hf => ?_)
      refine r_icmp_ge (tgt := 238) h dX10_answers_75 (by decide) (fun c36 => ?_) (fun c36 => ?_)
      · have hf := ite_t c36 hf
        refine r_iinc (v := v2 + 1) (lv' := [(2, .int (v2 + 1)), (0, .ref v0), (3, .int v3)]) h 1 dX10_answers_238 rfl rfl (by decide) rfl ?_
        refine r_goto (tgt := 61) h dX10_answers_241 (by decide) ?_
        exact V.sub [1, 0] rfl hf
      · have hf := ite_f c36 hf
        refine r_aload_n h 0 dX10_answers_78 rfl rfl ?_
        obtain ⟨k37, hf⟩ := hf
        obtain ⟨b38, e39, hf⟩ := hf
        refine g1630 h dX10_answers_79 k37 e39 ?_
        refine r_iload_n h 2 dX10_answers_82 rfl rfl ?_
        refine r_iload_n h 1 dX10_answers_83 rfl rfl ?_
        refine c2205 hl h dX10_answers_84 hf (Nat.le_of_ble_eq_true rfl) (by decide) (by decide) (fun x41 M40 hf => ?_)
        obtain ⟨j42, hf⟩ := hf
        refine r_iaload h dX10_answers_87 j42 ?_
        refine r_istore (lv' := [(4, .int (iv M40 b38 (ix x41))), (0, .ref v0), (2, .int v2), (3, .int v3)]) h dX10_answers_88 (by decide) rfl ?_
        refine r_iload h 0 dX10_answers_90 rfl ?_
        refine r_sipush (v := 1000) h dX10_answers_92 (by decide) ?_
        refine r_icmp_ne (tgt := 101) h dX10_answers_95 (by decide) (fun c43 => ?_) (fun c43 => ?_)
        · have hf := ite_f c43 hf
          refine r_aload_n h 1 dX10_answers_101 rfl rfl ?_
          refine r_aload_n h 1 dX10_answers_102 rfl rfl ?_
          refine r_iload_n h 3 dX10_answers_103 rfl rfl ?_
          refine r_iconst (v := 0) h dX10_answers_104 (by decide) ?_
          obtain ⟨k44, hf⟩ := hf
          refine c1997 hl h dX10_answers_105 k44 hf (Nat.le_of_ble_eq_true rfl) (by decide) (by decide) (fun x46 M45 hf => ?_)
          refine r_aload_n h 1 dX10_answers_108 rfl rfl ?_
          refine r_iload_n h 3 dX10_answers_109 rfl rfl ?_
          refine r_iconst (v := 1) h dX10_answers_110 (by decide) ?_
          obtain ⟨k47, hf⟩ := hf
          refine c1997 hl h dX10_answers_111 k47 hf (Nat.le_of_ble_eq_true rfl) (by decide) (by decide) (fun x49 M48 hf => ?_)
          refine r_iload_n h 2 dX10_answers_114 rfl rfl ?_
          obtain ⟨k50, hf⟩ := hf
          refine c2101 hl h dX10_answers_115 k50 hf (Nat.le_of_ble_eq_true rfl) (by decide) (by decide) (fun x52 M51 hf => ?_)
          refine r_istore (lv' := [(5, .int x52), (4, .int (iv M40 b38 (ix x41))), (0, .ref v0), (2, .int v2), (3, .int v3)]) h dX10_answers_118 (by decide) rfl ?_
          refine r_aload_n h 2 dX10_answers_120 rfl rfl ?_
          obtain ⟨k53, hf⟩ := hf
          obtain ⟨b54, e55, hf⟩ := hf
          refine g1632 h dX10_answers_121 k53 e55 ?_
          refine r_iload_n h 4 dX10_answers_124 rfl rfl ?_
          refine r_iload_n h 3 dX10_answers_125 rfl rfl ?_
          refine c2205 hl h dX10_answers_126 hf (Nat.le_of_ble_eq_true rfl) (by decide) (by decide) (fun x57 M56 hf => ?_)
          refine r_iload h 0 dX10_answers_129 rfl ?_
          obtain ⟨j58, hf⟩ := hf
          refine r_iastore h dX10_answers_131 j58 ?_
          refine r_goW (fun M59 eM59 => ?_)
          have hf := hf M59 eM59
          refine r_iconst (v := 0) h dX10_answers_132 (by decide) ?_
          refine r_istore (lv' := [(6, .int 0), (5, .int x52), (4, .int (iv M40 b38 (ix x41))), (0, .ref v0), (2, .int v2), (3, .int v3)]) h dX10_answers_133 (by decide) rfl ?_
          exact V.sub [3, 4, 5, 2, 1, 0] rfl hf
        · have hf := ite_t c43 hf
          refine r_goto (tgt := 232) h dX10_answers_98 (by decide) ?_
          refine r_iinc (v := v3 + 1) (lv' := [(3, .int (v3 + 1)), (4, .int (iv M40 b38 (ix x41))), (0, .ref v0), (2, .int v2)]) h 3 dX10_answers_232 rfl rfl (by decide) rfl ?_
          refine r_goto (tgt := 70) h dX10_answers_235 (by decide) ?_
          exact V.sub [2, 3, 0] rfl hf)
    (by
      intro v0 v2 v3 v4 v5 v6 M hf
      show V l G X 0 0 M 135 [(0, .ref v0), (2, .int v2), (3, .int v3), (4, .int v4), (5, .int v5), (6, .int v6)] []
      refine r_iload h 5 dX10_answers_135 rfl ?_
      refine r_aload_n h 0 dX10_answers_137 rfl rfl ?_
      obtain ⟨k60, hf⟩ := hf
      refine c1786 hl h dX10_answers_138 k60 hf (Nat.le_of_ble_eq_true rfl) (by decide) (by decide) (fun x62 M61 hf => ?_)
      refine r_icmp_ge (tgt := 232) h dX10_answers_141 (by decide) (fun c63 => ?_) (fun c63 => ?_)
      · have hf := ite_t c63 hf
        refine r_iinc (v := v3 + 1) (lv' := [(3, .int (v3 + 1)), (0, .ref v0), (2, .int v2), (4, .int v4), (5, .int v5), (6, .int v6)]) h 2 dX10_answers_232 rfl rfl (by decide) rfl ?_
        refine r_goto (tgt := 70) h dX10_answers_235 (by decide) ?_
        exact V.sub [1, 2, 0] rfl hf
      · have hf := ite_f c63 hf
        refine r_iload h 4 dX10_answers_144 rfl ?_
        refine r_if_lt (tgt := 232) h dX10_answers_146 (by decide) (fun c64 => ?_) (fun c64 => ?_)
        · have hf := ite_t c64 hf
          refine r_iinc (v := v3 + 1) (lv' := [(3, .int (v3 + 1)), (0, .ref v0), (2, .int v2), (4, .int v4), (5, .int v5), (6, .int v6)]) h 2 dX10_answers_232 rfl rfl (by decide) rfl ?_
          refine r_goto (tgt := 70) h dX10_answers_235 (by decide) ?_
          exact V.sub [1, 2, 0] rfl hf
        · have hf := ite_f c64 hf
          refine r_aload_n h 0 dX10_answers_149 rfl rfl ?_
          refine r_iload h 5 dX10_answers_150 rfl ?_
          refine r_iload_n h 2 dX10_answers_152 rfl rfl ?_
          obtain ⟨k65, hf⟩ := hf
          refine c2208 hl h dX10_answers_153 k65 hf (Nat.le_of_ble_eq_true rfl) (by decide) (by decide) (fun x67 M66 hf => ?_)
          refine r_if_ne (tgt := 162) h dX10_answers_156 (by decide) (fun c68 => ?_) (fun c68 => ?_)
          · have hf := ite_f c68 hf
            refine r_aload_n h 0 dX10_answers_162 rfl rfl ?_
            obtain ⟨k69, hf⟩ := hf
            obtain ⟨b70, e71, hf⟩ := hf
            refine g1631 h dX10_answers_163 k69 e71 ?_
            refine r_iload h 5 dX10_answers_166 rfl ?_
            refine r_iload h 4 dX10_answers_168 rfl ?_
            refine c2205 hl h dX10_answers_170 hf (Nat.le_of_ble_eq_true rfl) (by decide) (by decide) (fun x73 M72 hf => ?_)
            refine r_aload_n h 0 dX10_answers_173 rfl rfl ?_
            obtain ⟨k74, hf⟩ := hf
            obtain ⟨b75, e76, hf⟩ := hf
            refine g1631 h dX10_answers_174 k74 e76 ?_
            refine r_iload h 5 dX10_answers_177 rfl ?_
            refine r_iload h 4 dX10_answers_179 rfl ?_
            refine c2205 hl h dX10_answers_181 hf (Nat.le_of_ble_eq_true rfl) (by decide) (by decide) (fun x78 M77 hf => ?_)
            obtain ⟨j79, hf⟩ := hf
            refine r_iaload h dX10_answers_184 j79 ?_
            refine r_iload h 3 dX10_answers_185 rfl ?_
            refine r_mmin h q1987 q729 q165 q730 dX10_answers_187 (by decide) (by decide) (Nat.le_of_ble_eq_true rfl) ?_
            refine r_nam (fun x80 ex80 => ?_)
            have hf := hf x80 ex80
            obtain ⟨j81, hf⟩ := hf
            refine r_iastore h dX10_answers_190 j81 ?_
            refine r_goW (fun M82 eM82 => ?_)
            have hf := hf M82 eM82
            refine r_aload_n h 0 dX10_answers_191 rfl rfl ?_
            obtain ⟨k83, hf⟩ := hf
            obtain ⟨b84, e85, hf⟩ := hf
            refine g1630 h dX10_answers_192 k83 e85 ?_
            refine r_iload h 5 dX10_answers_195 rfl ?_
            refine r_iload h 4 dX10_answers_197 rfl ?_
            refine r_iconst (v := 1) h dX10_answers_199 (by decide) ?_
            refine r_iadd h dX10_answers_200 ?_
            refine c2205 hl h dX10_answers_201 hf (Nat.le_of_ble_eq_true rfl) (by decide) (by decide) (fun x87 M86 hf => ?_)
            refine r_aload_n h 0 dX10_answers_204 rfl rfl ?_
            obtain ⟨k88, hf⟩ := hf
            obtain ⟨b89, e90, hf⟩ := hf
            refine g1630 h dX10_answers_205 k88 e90 ?_
            refine r_iload h 5 dX10_answers_208 rfl ?_
            refine r_iload h 4 dX10_answers_210 rfl ?_
            refine r_iconst (v := 1) h dX10_answers_212 (by decide) ?_
            refine r_iadd h dX10_answers_213 ?_
            refine c2205 hl h dX10_answers_214 hf (Nat.le_of_ble_eq_true rfl) (by decide) (by decide) (fun x92 M91 hf => ?_)
            obtain ⟨j93, hf⟩ := hf
            refine r_iaload h dX10_answers_217 j93 ?_
            refine r_iload h 3 dX10_answers_218 rfl ?_
            refine r_iconst (v := 1) h dX10_answers_220 (by decide) ?_
            refine r_iadd h dX10_answers_221 ?_
            refine r_mmin h q1987 q729 q165 q730 dX10_answers_222 (by decide) (by decide) (Nat.le_of_ble_eq_true rfl) ?_
            refine r_nam (fun x94 ex94 => ?_)
            have hf := hf x94 ex94
            obtain ⟨j95, hf⟩ := hf
            refine r_iastore h dX10_answers_225 j95 ?_
            refine r_goW (fun M96 eM96 => ?_)
            have hf := hf M96 eM96
            refine r_iinc (v := v6 + 1) (lv' := [(6, .int (v6 + 1)), (0, .ref v0), (2, .int v2), (3, .int v3), (4, .int v4), (5, .int v5)]) h 5 dX10_answers_226 rfl rfl (by decide) rfl ?_
            refine r_goto (tgt := 135) h dX10_answers_229 (by decide) ?_
            exact V.sub [1, 2, 3, 4, 5, 0] rfl hf
          · have hf := ite_t c68 hf
            refine r_goto (tgt := 226) h dX10_answers_159 (by decide) ?_
            refine r_iinc (v := v6 + 1) (lv' := [(6, .int (v6 + 1)), (0, .ref v0), (2, .int v2), (3, .int v3), (4, .int v4), (5, .int v5)]) h 5 dX10_answers_226 rfl rfl (by decide) rfl ?_
            refine r_goto (tgt := 135) h dX10_answers_229 (by decide) ?_
            exact V.sub [1, 2, 3, 4, 5, 0] rfl hf)
  refine r_iconst (v := 0) h dX10_answers_0 (by decide) ?_
  refine r_istore_n (lv' := [(2, .int 0), (0, .ref a0), (1, .int a1)]) h dX10_answers_1 rfl (by decide) rfl ?_
  exact V.sub [1, 2, 0] rfl hf
theorem c2201 {l : Launch} {G : gG} {X : gX} {cc : ByteArray} {nL F L bc bs pc : Nat} {M : gM} {lv : List (Nat × Value)} {rest : List Value} {a0 : Nat} {a1 : Int32} {K : gM → Prop} (hl : l.stackTraces = false) (h : hX l G X cc nL "GlacierMailModel" F L) (d : decode cc pc = .ok (.invokevirtual 471, 3)) (hk : kd M a0 = some (.inl 10)) (hf : f_X10_answers a0 a1 M K) (hst : (rest.map fun v => v.category).sum ≤ 8) (hF : 8 ≤ F) (hL : 195 ≤ L) (kk : ∀ M1, K M1 → V l G X bc bs M1 (pc + 3) lv rest) : V l G X bc bs M pc lv (.int a1 :: .ref a0 :: rest) := r_callV (n := 1) (As := [.int a1]) h (m_X10_answers hl hf) 10 rfl hk rfl ⟨by decide, by decide, by decide +kernel⟩ d q2201 q2203 qs129 q147 q2204 rfl rfl hst hF hL (Nat.zero_le _) (Nat.zero_le _) (kV_go kk) kN_go
def f_X10_hasIn (a0 : Nat) (a1 : Int32) (M : gM) (K : Int32 → gM → Prop) : Prop :=
  ∀ P2 : Nat → Int32 → Int32 → gM → Prop,
  (∀ (v0 : Nat) (v1 : Int32) (v2 : Int32) (M : gM), (if 300 ≤ v2 then K (-1) M else kd M v0 = some (.inl 10) ∧ ∃ b3, rv M v0 34 = some b3 ∧ f_X10_at v1 v2 M (fun x6 M5 => inA M5 b3 0 x6 ∧ if 1000 ≤ (iv M5 b3 (ix x6)) then P2 v0 v1 (v2 + 1) M5 else K v2 M5)) → P2 v0 v1 v2 M) →
  P2 a0 a1 0 M
set_option maxHeartbeats 4000000 in
theorem m_X10_hasIn {l : Launch} (hl : l.stackTraces = false) {G : gG} {a0 : Nat} {a1 : Int32} {M : gM} {K : Int32 → gM → Prop} (hf : f_X10_hasIn a0 a1 M K) : gMet l G yX10_hasIn (ws_ yX10_hasIn cX10_hasIn 3 (some Jvm.ClassFile.FieldType.int)) ({ frames := 1, cells := 0, slots := 0, locals := 21 }) M [.ref a0, .int a1] (kI K) kN := by
  refine gm_of hl (ret := (some Jvm.ClassFile.FieldType.int)) rfl (Nat.le_of_ble_eq_true rfl) (fun X h hq => ?_)
  have h : hX l G X cX10_hasIn 3 "GlacierMailModel" 1 21 := h
  have hf := hf
  show V l G X 0 0 M 0 [(0, .ref a0), (1, .int a1)] []
  have hf := hf
    (fun v0 v1 v2 M => V l G X 0 0 M 2 [(0, .ref v0), (1, .int v1), (2, .int v2)] [])
    (by
      intro v0 v1 v2 M hf
      show V l G X 0 0 M 2 [(0, .ref v0), (1, .int v1), (2, .int v2)] []
      refine r_iload_n h 2 dX10_hasIn_2 rfl rfl ?_
      refine r_sipush (v := 300) h dX10_hasIn_3 (by decide) ?_
      refine r_icmp_ge (tgt := 33) h dX10_hasIn_6 (by decide) (fun c1 => ?_) (fun c1 => ?_)
      · have hf := ite_t c1 hf
        refine r_iconst (v := (-1)) h dX10_hasIn_33 (by decide) ?_
        exact r_ireturn h hq dX10_hasIn_34 ⟨_, rfl, hf⟩
      · have hf := ite_f c1 hf
        refine r_aload_n h 0 dX10_hasIn_9 rfl rfl ?_
        obtain ⟨k2, hf⟩ := hf
        obtain ⟨b3, e4, hf⟩ := hf
        refine g1631 h dX10_hasIn_10 k2 e4 ?_
        refine r_iload_n h 1 dX10_hasIn_13 rfl rfl ?_
        refine r_iload_n h 2 dX10_hasIn_14 rfl rfl ?_
        refine c2205 hl h dX10_hasIn_15 hf (Nat.le_of_ble_eq_true rfl) (by decide) (by decide) (fun x6 M5 hf => ?_)
        obtain ⟨j7, hf⟩ := hf
        refine r_iaload h dX10_hasIn_18 j7 ?_
        refine r_sipush (v := 1000) h dX10_hasIn_19 (by decide) ?_
        refine r_icmp_ge (tgt := 27) h dX10_hasIn_22 (by decide) (fun c8 => ?_) (fun c8 => ?_)
        · have hf := ite_t c8 hf
          refine r_iinc (v := v2 + 1) (lv' := [(2, .int (v2 + 1)), (0, .ref v0), (1, .int v1)]) h 2 dX10_hasIn_27 rfl rfl (by decide) rfl ?_
          refine r_goto (tgt := 2) h dX10_hasIn_30 (by decide) ?_
          exact V.sub [1, 2, 0] rfl hf
        · have hf := ite_f c8 hf
          refine r_iload_n h 2 dX10_hasIn_25 rfl rfl ?_
          exact r_ireturn h hq dX10_hasIn_26 ⟨_, rfl, hf⟩)
  refine r_iconst (v := 0) h dX10_hasIn_0 (by decide) ?_
  refine r_istore_n (lv' := [(2, .int 0), (0, .ref a0), (1, .int a1)]) h dX10_hasIn_1 rfl (by decide) rfl ?_
  exact V.sub [1, 2, 0] rfl hf
theorem c2212 {l : Launch} {G : gG} {X : gX} {cc : ByteArray} {nL F L bc bs pc : Nat} {M : gM} {lv : List (Nat × Value)} {rest : List Value} {a0 : Nat} {a1 : Int32} {K : Int32 → gM → Prop} (hl : l.stackTraces = false) (h : hX l G X cc nL "GlacierMailModel" F L) (d : decode cc pc = .ok (.invokevirtual 474, 3)) (hk : kd M a0 = some (.inl 10)) (hf : f_X10_hasIn a0 a1 M K) (hst : (rest.map fun v => v.category).sum ≤ 8) (hF : 2 ≤ F) (hL : 43 ≤ L) (kk : ∀ x M1, K x M1 → V l G X bc bs M1 (pc + 3) lv (.int x :: rest)) : V l G X bc bs M pc lv (.int a1 :: .ref a0 :: rest) := r_callV (n := 1) (As := [.int a1]) h (m_X10_hasIn hl hf) 10 rfl hk rfl ⟨by decide, by decide, by decide +kernel⟩ d q2212 q2214 qs131 q147 q2215 rfl rfl hst hF hL (Nat.zero_le _) (Nat.zero_le _) (kI_go kk) kN_go
def f_X10_soonest (a0 : Nat) (a1 : Int32) (a2 : Int32) (a3 : Int32) (M : gM) (K : Int32 → gM → Prop) : Prop :=
  ∀ P27 : Nat → Int32 → Int32 → Int32 → Int32 → Nat → gM → Prop,
  ∀ P45 : Nat → Int32 → Int32 → Int32 → Int32 → Nat → gM → Prop,
  (∀ (v0 : Nat) (v1 : Int32) (v2 : Int32) (v3 : Int32) (s0 : Int32) (s1 : Nat) (M : gM), (kd M s1 = some (.inl 10) ∧ f_X10_throwsIf s1 s0 1 M (fun x13 M12 => if x13 = 0 then if v1 = v2 then P45 v0 v1 v2 v3 1 v0 M12 else P45 v0 v1 v2 v3 0 v0 M12 else K 0 M12)) → P27 v0 v1 v2 v3 s0 s1 M) →
  (∀ (v0 : Nat) (v1 : Int32) (v2 : Int32) (v3 : Int32) (s0 : Int32) (s1 : Nat) (M : gM), (kd M s1 = some (.inl 10) ∧ f_X10_throwsIf s1 s0 2 M (fun x18 M17 => if x18 = 0 then kd M17 v0 = some (.inl 10) ∧ f_X10_answers v0 v1 M17 (fun M21 => kd M21 v0 = some (.inl 10) ∧ f_X10_hasIn v0 v2 M21 (fun x24 M23 => if x24 < 0 then K x24 M23 else if v3 = 0 then K x24 M23 else kd M23 v0 = some (.inl 10) ∧ ∃ b28, rv M23 v0 34 = some b28 ∧ f_X10_at v2 x24 M23 (fun x31 M30 => inA M30 b28 0 x31 ∧ K (iv M30 b28 (ix x31)) M30))) else K 0 M17)) → P45 v0 v1 v2 v3 s0 s1 M) →
  kd M a0 = some (.inl 10) ∧ ∀ M2, M2 = sI M a0 0 0 → kd M2 a0 = some (.inl 10) ∧ f_X10_noPerson a0 a1 M2 (fun x5 M4 => if x5 = 0 then kd M4 a0 = some (.inl 10) ∧ f_X10_noPerson a0 a2 M4 (fun x9 M8 => if x9 = 0 then P27 a0 a1 a2 a3 0 a0 M8 else P27 a0 a1 a2 a3 1 a0 M8) else P27 a0 a1 a2 a3 1 a0 M4)
set_option maxHeartbeats 4000000 in
theorem m_X10_soonest {l : Launch} (hl : l.stackTraces = false) {G : gG} {a0 : Nat} {a1 : Int32} {a2 : Int32} {a3 : Int32} {M : gM} {K : Int32 → gM → Prop} (hf : f_X10_soonest a0 a1 a2 a3 M K) : gMet l G yX10_soonest (ws_ yX10_soonest cX10_soonest 5 (some Jvm.ClassFile.FieldType.int)) ({ frames := 8, cells := 0, slots := 0, locals := 195 }) M [.ref a0, .int a1, .int a2, .int a3] (kI K) kN := by
  refine gm_of hl (ret := (some Jvm.ClassFile.FieldType.int)) rfl (Nat.le_of_ble_eq_true rfl) (fun X h hq => ?_)
  have h : hX l G X cX10_soonest 5 "GlacierMailModel" 8 195 := h
  have hf := hf
  show V l G X 0 0 M 0 [(0, .ref a0), (1, .int a1), (2, .int a2), (3, .int a3)] []
  have hf := hf
    (fun v0 v1 v2 v3 s0 s1 M => V l G X 0 0 M 27 [(0, .ref v0), (1, .int v1), (2, .int v2), (3, .int v3)] [.int s0, .ref s1])
    (fun v0 v1 v2 v3 s0 s1 M => V l G X 0 0 M 45 [(0, .ref v0), (1, .int v1), (2, .int v2), (3, .int v3)] [.int s0, .ref s1])
    (by
      intro v0 v1 v2 v3 s0 s1 M hf
      show V l G X 0 0 M 27 [(0, .ref v0), (1, .int v1), (2, .int v2), (3, .int v3)] [.int s0, .ref s1]
      refine r_iconst (v := 1) h dX10_soonest_27 (by decide) ?_
      obtain ⟨k11, hf⟩ := hf
      refine c1929 hl h dX10_soonest_28 k11 hf (Nat.le_of_ble_eq_true rfl) (by decide) (by decide) (fun x13 M12 hf => ?_)
      refine r_if_ne (tgt := 52) h dX10_soonest_31 (by decide) (fun c14 => ?_) (fun c14 => ?_)
      · have hf := ite_f c14 hf
        refine r_iconst (v := 0) h dX10_soonest_52 (by decide) ?_
        exact r_ireturn h hq dX10_soonest_53 ⟨_, rfl, hf⟩
      · have hf := ite_t c14 hf
        refine r_aload_n h 0 dX10_soonest_34 rfl rfl ?_
        refine r_iload_n h 1 dX10_soonest_35 rfl rfl ?_
        refine r_iload_n h 2 dX10_soonest_36 rfl rfl ?_
        refine r_icmp_ne (tgt := 44) h dX10_soonest_37 (by decide) (fun c15 => ?_) (fun c15 => ?_)
        · have hf := ite_f c15 hf
          refine r_iconst (v := 0) h dX10_soonest_44 (by decide) ?_
          exact V.sub [0, 1, 2, 3] rfl hf
        · have hf := ite_t c15 hf
          refine r_iconst (v := 1) h dX10_soonest_40 (by decide) ?_
          refine r_goto (tgt := 45) h dX10_soonest_41 (by decide) ?_
          exact V.sub [0, 1, 2, 3] rfl hf)
    (by
      intro v0 v1 v2 v3 s0 s1 M hf
      show V l G X 0 0 M 45 [(0, .ref v0), (1, .int v1), (2, .int v2), (3, .int v3)] [.int s0, .ref s1]
      refine r_iconst (v := 2) h dX10_soonest_45 (by decide) ?_
      obtain ⟨k16, hf⟩ := hf
      refine c1929 hl h dX10_soonest_46 k16 hf (Nat.le_of_ble_eq_true rfl) (by decide) (by decide) (fun x18 M17 hf => ?_)
      refine r_if_eq (tgt := 54) h dX10_soonest_49 (by decide) (fun c19 => ?_) (fun c19 => ?_)
      · have hf := ite_t c19 hf
        refine r_aload_n h 0 dX10_soonest_54 rfl rfl ?_
        refine r_iload_n h 1 dX10_soonest_55 rfl rfl ?_
        obtain ⟨k20, hf⟩ := hf
        refine c2201 hl h dX10_soonest_56 k20 hf (Nat.le_of_ble_eq_true rfl) (by decide) (by decide) (fun M21 hf => ?_)
        refine r_aload_n h 0 dX10_soonest_59 rfl rfl ?_
        refine r_iload_n h 2 dX10_soonest_60 rfl rfl ?_
        obtain ⟨k22, hf⟩ := hf
        refine c2212 hl h dX10_soonest_61 k22 hf (Nat.le_of_ble_eq_true rfl) (by decide) (by decide) (fun x24 M23 hf => ?_)
        refine r_istore (lv' := [(4, .int x24), (0, .ref v0), (1, .int v1), (2, .int v2), (3, .int v3)]) h dX10_soonest_64 (by decide) rfl ?_
        refine r_iload h 0 dX10_soonest_66 rfl ?_
        refine r_if_lt (tgt := 75) h dX10_soonest_68 (by decide) (fun c25 => ?_) (fun c25 => ?_)
        · have hf := ite_t c25 hf
          refine r_iload h 0 dX10_soonest_75 rfl ?_
          refine r_goto (tgt := 91) h dX10_soonest_77 (by decide) ?_
          exact r_ireturn h hq dX10_soonest_91 ⟨_, rfl, hf⟩
        · have hf := ite_f c25 hf
          refine r_iload_n h 4 dX10_soonest_71 rfl rfl ?_
          refine r_if_ne (tgt := 80) h dX10_soonest_72 (by decide) (fun c26 => ?_) (fun c26 => ?_)
          · have hf := ite_f c26 hf
            refine r_aload_n h 1 dX10_soonest_80 rfl rfl ?_
            obtain ⟨k27, hf⟩ := hf
            obtain ⟨b28, e29, hf⟩ := hf
            refine g1631 h dX10_soonest_81 k27 e29 ?_
            refine r_iload_n h 3 dX10_soonest_84 rfl rfl ?_
            refine r_iload h 0 dX10_soonest_85 rfl ?_
            refine c2205 hl h dX10_soonest_87 hf (Nat.le_of_ble_eq_true rfl) (by decide) (by decide) (fun x31 M30 hf => ?_)
            obtain ⟨j32, hf⟩ := hf
            refine r_iaload h dX10_soonest_90 j32 ?_
            exact r_ireturn h hq dX10_soonest_91 ⟨_, rfl, hf⟩
          · have hf := ite_t c26 hf
            refine r_iload h 0 dX10_soonest_75 rfl ?_
            refine r_goto (tgt := 91) h dX10_soonest_77 (by decide) ?_
            exact r_ireturn h hq dX10_soonest_91 ⟨_, rfl, hf⟩
      · have hf := ite_f c19 hf
        refine r_iconst (v := 0) h dX10_soonest_52 (by decide) ?_
        exact r_ireturn h hq dX10_soonest_53 ⟨_, rfl, hf⟩)
  refine r_aload_n h 0 dX10_soonest_0 rfl rfl ?_
  refine r_iconst (v := 0) h dX10_soonest_1 (by decide) ?_
  obtain ⟨k1, hf⟩ := hf
  refine p1597 h dX10_soonest_2 k1 ?_
  refine r_goW (fun M2 eM2 => ?_)
  have hf := hf M2 eM2
  refine r_aload_n h 0 dX10_soonest_5 rfl rfl ?_
  refine r_aload_n h 0 dX10_soonest_6 rfl rfl ?_
  refine r_iload_n h 1 dX10_soonest_7 rfl rfl ?_
  obtain ⟨k3, hf⟩ := hf
  refine c1993 hl h dX10_soonest_8 k3 hf (Nat.le_of_ble_eq_true rfl) (by decide) (by decide) (fun x5 M4 hf => ?_)
  refine r_if_ne (tgt := 22) h dX10_soonest_11 (by decide) (fun c6 => ?_) (fun c6 => ?_)
  · have hf := ite_f c6 hf
    refine r_iconst (v := 1) h dX10_soonest_22 (by decide) ?_
    refine r_goto (tgt := 27) h dX10_soonest_23 (by decide) ?_
    exact V.sub [0, 1, 2, 3] rfl hf
  · have hf := ite_t c6 hf
    refine r_aload_n h 0 dX10_soonest_14 rfl rfl ?_
    refine r_iload_n h 2 dX10_soonest_15 rfl rfl ?_
    obtain ⟨k7, hf⟩ := hf
    refine c1993 hl h dX10_soonest_16 k7 hf (Nat.le_of_ble_eq_true rfl) (by decide) (by decide) (fun x9 M8 hf => ?_)
    refine r_if_eq (tgt := 26) h dX10_soonest_19 (by decide) (fun c10 => ?_) (fun c10 => ?_)
    · have hf := ite_t c10 hf
      refine r_iconst (v := 0) h dX10_soonest_26 (by decide) ?_
      exact V.sub [0, 1, 2, 3] rfl hf
    · have hf := ite_f c10 hf
      refine r_iconst (v := 1) h dX10_soonest_22 (by decide) ?_
      refine r_goto (tgt := 27) h dX10_soonest_23 (by decide) ?_
      exact V.sub [0, 1, 2, 3] rfl hf
theorem c2197 {l : Launch} {G : gG} {X : gX} {cc : ByteArray} {nL F L bc bs pc : Nat} {M : gM} {lv : List (Nat × Value)} {rest : List Value} {a0 : Nat} {a1 : Int32} {a2 : Int32} {a3 : Int32} {K : Int32 → gM → Prop} (hl : l.stackTraces = false) (h : hX l G X cc nL "GlacierMailLaw" F L) (d : decode cc pc = .ok (.invokevirtual 251, 3)) (hk : kd M a0 = some (.inl 10)) (hf : f_X10_soonest a0 a1 a2 a3 M K) (hst : (rest.map fun v => v.category).sum ≤ 8) (hF : 9 ≤ F) (hL : 219 ≤ L) (kk : ∀ x M1, K x M1 → V l G X bc bs M1 (pc + 3) lv (.int x :: rest)) : V l G X bc bs M pc lv (.int a3 :: .int a2 :: .int a1 :: .ref a0 :: rest) := r_callV (n := 3) (As := [.int a1, .int a2, .int a3]) h (m_X10_soonest hl hf) 10 rfl hk rfl ⟨by decide, by decide, by decide +kernel⟩ d q2197 q2198 q2199 q147 q2200 rfl rfl hst hF hL (Nat.zero_le _) (Nat.zero_le _) (kI_go kk) kN_go
def f_X10_thrower (a0 : Nat) (a1 : Int32) (a2 : Int32) (a3 : Int32) (M : gM) (K : Int32 → gM → Prop) : Prop :=
  ∀ P3 : Nat → Int32 → Int32 → Int32 → Int32 → gM → Prop,
  ∀ P18 : Nat → Int32 → Int32 → Int32 → Int32 → Int32 → gM → Prop,
  (∀ (v0 : Nat) (v1 : Int32) (v2 : Int32) (v3 : Int32) (v4 : Int32) (M : gM), (kd M v0 = some (.inl 10) ∧ f_X10_people v0 M (fun x3 M2 => if x3 ≤ v4 then K (-1) M2 else kd M2 v0 = some (.inl 10) ∧ f_X10_now v0 M2 (fun x7 M6 => P18 v0 v1 v2 v3 v4 x7 M6))) → P3 v0 v1 v2 v3 v4 M) →
  (∀ (v0 : Nat) (v1 : Int32) (v2 : Int32) (v3 : Int32) (v4 : Int32) (v5 : Int32) (M : gM), (if v2 ≤ v5 then P3 v0 v1 v2 v3 (v4 + 1) M else kd M v0 = some (.inl 10) ∧ f_X10_isWatching v0 v1 v4 M (fun x11 M10 => if x11 = 0 then P18 v0 v1 v2 v3 v4 (v5 + 1) M10 else kd M10 v0 = some (.inl 10) ∧ ∃ b14, rv M10 v0 33 = some b14 ∧ f_X10_at v4 v5 M10 (fun x17 M16 => inA M16 b14 0 x17 ∧ if (iv M16 b14 (ix x17)) = v3 then kd M16 v0 = some (.inl 10) ∧ ∃ b21, rv M16 v0 35 = some b21 ∧ f_X10_at v4 v5 M16 (fun x24 M23 => inA M23 b21 0 x24 ∧ if (iv M23 b21 (ix x24)) = v2 then kd M23 v0 = some (.inl 10) ∧ ∀ M28, M28 = sI M23 v0 36 v5 → K v4 M28 else P18 v0 v1 v2 v3 v4 (v5 + 1) M23) else P18 v0 v1 v2 v3 v4 (v5 + 1) M16))) → P18 v0 v1 v2 v3 v4 v5 M) →
  P3 a0 a1 a2 a3 0 M
set_option maxHeartbeats 4000000 in
theorem m_X10_thrower {l : Launch} (hl : l.stackTraces = false) {G : gG} {a0 : Nat} {a1 : Int32} {a2 : Int32} {a3 : Int32} {M : gM} {K : Int32 → gM → Prop} (hf : f_X10_thrower a0 a1 a2 a3 M K) : gMet l G yX10_thrower (ws_ yX10_thrower cX10_thrower 6 (some Jvm.ClassFile.FieldType.int)) ({ frames := 2, cells := 0, slots := 0, locals := 44 }) M [.ref a0, .int a1, .int a2, .int a3] (kI K) kN := by
  refine gm_of hl (ret := (some Jvm.ClassFile.FieldType.int)) rfl (Nat.le_of_ble_eq_true rfl) (fun X h hq => ?_)
  have h : hX l G X cX10_thrower 6 "GlacierMailModel" 2 44 := h
  have hf := hf
  show V l G X 0 0 M 0 [(0, .ref a0), (1, .int a1), (2, .int a2), (3, .int a3)] []
  have hf := hf
    (fun v0 v1 v2 v3 v4 M => V l G X 0 0 M 3 [(0, .ref v0), (1, .int v1), (2, .int v2), (3, .int v3), (4, .int v4)] [])
    (fun v0 v1 v2 v3 v4 v5 M => V l G X 0 0 M 18 [(0, .ref v0), (1, .int v1), (2, .int v2), (3, .int v3), (4, .int v4), (5, .int v5)] [])
    (by
      intro v0 v1 v2 v3 v4 M hf
      show V l G X 0 0 M 3 [(0, .ref v0), (1, .int v1), (2, .int v2), (3, .int v3), (4, .int v4)] []
      refine r_iload h 4 dX10_thrower_3 rfl ?_
      refine r_aload_n h 0 dX10_thrower_5 rfl rfl ?_
      obtain ⟨k1, hf⟩ := hf
      refine c1786 hl h dX10_thrower_6 k1 hf (Nat.le_of_ble_eq_true rfl) (by decide) (by decide) (fun x3 M2 hf => ?_)
      refine r_icmp_ge (tgt := 90) h dX10_thrower_9 (by decide) (fun c4 => ?_) (fun c4 => ?_)
      · have hf := ite_t c4 hf
        refine r_iconst (v := (-1)) h dX10_thrower_90 (by decide) ?_
        exact r_ireturn h hq dX10_thrower_91 ⟨_, rfl, hf⟩
      · have hf := ite_f c4 hf
        refine r_aload_n h 0 dX10_thrower_12 rfl rfl ?_
        obtain ⟨k5, hf⟩ := hf
        refine c1843 hl h dX10_thrower_13 k5 hf (Nat.le_of_ble_eq_true rfl) (by decide) (by decide) (fun x7 M6 hf => ?_)
        refine r_istore (lv' := [(5, .int x7), (0, .ref v0), (1, .int v1), (2, .int v2), (3, .int v3), (4, .int v4)]) h dX10_thrower_16 (by decide) rfl ?_
        exact V.sub [1, 2, 3, 4, 5, 0] rfl hf)
    (by
      intro v0 v1 v2 v3 v4 v5 M hf
      show V l G X 0 0 M 18 [(0, .ref v0), (1, .int v1), (2, .int v2), (3, .int v3), (4, .int v4), (5, .int v5)] []
      refine r_iload h 5 dX10_thrower_18 rfl ?_
      refine r_iload_n h 2 dX10_thrower_20 rfl rfl ?_
      refine r_icmp_ge (tgt := 84) h dX10_thrower_21 (by decide) (fun c8 => ?_) (fun c8 => ?_)
      · have hf := ite_t c8 hf
        refine r_iinc (v := v4 + 1) (lv' := [(4, .int (v4 + 1)), (0, .ref v0), (1, .int v1), (2, .int v2), (3, .int v3), (5, .int v5)]) h 4 dX10_thrower_84 rfl rfl (by decide) rfl ?_
        refine r_goto (tgt := 3) h dX10_thrower_87 (by decide) ?_
        exact V.sub [1, 2, 3, 4, 0] rfl hf
      · have hf := ite_f c8 hf
        refine r_aload_n h 0 dX10_thrower_24 rfl rfl ?_
        refine r_iload_n h 1 dX10_thrower_25 rfl rfl ?_
        refine r_iload h 4 dX10_thrower_26 rfl ?_
        obtain ⟨k9, hf⟩ := hf
        refine c2208 hl h dX10_thrower_28 k9 hf (Nat.le_of_ble_eq_true rfl) (by decide) (by decide) (fun x11 M10 hf => ?_)
        refine r_if_eq (tgt := 78) h dX10_thrower_31 (by decide) (fun c12 => ?_) (fun c12 => ?_)
        · have hf := ite_t c12 hf
          refine r_iinc (v := v5 + 1) (lv' := [(5, .int (v5 + 1)), (0, .ref v0), (1, .int v1), (2, .int v2), (3, .int v3), (4, .int v4)]) h 5 dX10_thrower_78 rfl rfl (by decide) rfl ?_
          refine r_goto (tgt := 18) h dX10_thrower_81 (by decide) ?_
          exact V.sub [1, 2, 3, 4, 5, 0] rfl hf
        · have hf := ite_f c12 hf
          refine r_aload_n h 0 dX10_thrower_34 rfl rfl ?_
          obtain ⟨k13, hf⟩ := hf
          obtain ⟨b14, e15, hf⟩ := hf
          refine g1630 h dX10_thrower_35 k13 e15 ?_
          refine r_iload h 4 dX10_thrower_38 rfl ?_
          refine r_iload h 5 dX10_thrower_40 rfl ?_
          refine c2205 hl h dX10_thrower_42 hf (Nat.le_of_ble_eq_true rfl) (by decide) (by decide) (fun x17 M16 hf => ?_)
          obtain ⟨j18, hf⟩ := hf
          refine r_iaload h dX10_thrower_45 j18 ?_
          refine r_iload_n h 3 dX10_thrower_46 rfl rfl ?_
          refine r_icmp_ne (tgt := 78) h dX10_thrower_47 (by decide) (fun c19 => ?_) (fun c19 => ?_)
          · have hf := ite_f c19 hf
            refine r_iinc (v := v5 + 1) (lv' := [(5, .int (v5 + 1)), (0, .ref v0), (1, .int v1), (2, .int v2), (3, .int v3), (4, .int v4)]) h 5 dX10_thrower_78 rfl rfl (by decide) rfl ?_
            refine r_goto (tgt := 18) h dX10_thrower_81 (by decide) ?_
            exact V.sub [1, 2, 3, 4, 5, 0] rfl hf
          · have hf := ite_t c19 hf
            refine r_aload_n h 0 dX10_thrower_50 rfl rfl ?_
            obtain ⟨k20, hf⟩ := hf
            obtain ⟨b21, e22, hf⟩ := hf
            refine g1632 h dX10_thrower_51 k20 e22 ?_
            refine r_iload h 4 dX10_thrower_54 rfl ?_
            refine r_iload h 5 dX10_thrower_56 rfl ?_
            refine c2205 hl h dX10_thrower_58 hf (Nat.le_of_ble_eq_true rfl) (by decide) (by decide) (fun x24 M23 hf => ?_)
            obtain ⟨j25, hf⟩ := hf
            refine r_iaload h dX10_thrower_61 j25 ?_
            refine r_iload_n h 2 dX10_thrower_62 rfl rfl ?_
            refine r_icmp_eq (tgt := 69) h dX10_thrower_63 (by decide) (fun c26 => ?_) (fun c26 => ?_)
            · have hf := ite_t c26 hf
              refine r_aload_n h 0 dX10_thrower_69 rfl rfl ?_
              refine r_iload h 5 dX10_thrower_70 rfl ?_
              obtain ⟨k27, hf⟩ := hf
              refine p1633 h dX10_thrower_72 k27 ?_
              refine r_goW (fun M28 eM28 => ?_)
              have hf := hf M28 eM28
              refine r_iload h 4 dX10_thrower_75 rfl ?_
              exact r_ireturn h hq dX10_thrower_77 ⟨_, rfl, hf⟩
            · have hf := ite_f c26 hf
              refine r_goto (tgt := 78) h dX10_thrower_66 (by decide) ?_
              refine r_iinc (v := v5 + 1) (lv' := [(5, .int (v5 + 1)), (0, .ref v0), (1, .int v1), (2, .int v2), (3, .int v3), (4, .int v4)]) h 5 dX10_thrower_78 rfl rfl (by decide) rfl ?_
              refine r_goto (tgt := 18) h dX10_thrower_81 (by decide) ?_
              exact V.sub [1, 2, 3, 4, 5, 0] rfl hf)
  refine r_iconst (v := 0) h dX10_thrower_0 (by decide) ?_
  refine r_istore (lv' := [(4, .int 0), (0, .ref a0), (1, .int a1), (2, .int a2), (3, .int a3)]) h dX10_thrower_1 (by decide) rfl ?_
  exact V.sub [1, 2, 3, 4, 0] rfl hf
theorem c2220 {l : Launch} {G : gG} {X : gX} {cc : ByteArray} {nL F L bc bs pc : Nat} {M : gM} {lv : List (Nat × Value)} {rest : List Value} {a0 : Nat} {a1 : Int32} {a2 : Int32} {a3 : Int32} {K : Int32 → gM → Prop} (hl : l.stackTraces = false) (h : hX l G X cc nL "GlacierMailModel" F L) (d : decode cc pc = .ok (.invokevirtual 480, 3)) (hk : kd M a0 = some (.inl 10)) (hf : f_X10_thrower a0 a1 a2 a3 M K) (hst : (rest.map fun v => v.category).sum ≤ 8) (hF : 3 ≤ F) (hL : 69 ≤ L) (kk : ∀ x M1, K x M1 → V l G X bc bs M1 (pc + 3) lv (.int x :: rest)) : V l G X bc bs M pc lv (.int a3 :: .int a2 :: .int a1 :: .ref a0 :: rest) := r_callV (n := 3) (As := [.int a1, .int a2, .int a3]) h (m_X10_thrower hl hf) 10 rfl hk rfl ⟨by decide, by decide, by decide +kernel⟩ d q2220 q2222 qs132 q147 q2223 rfl rfl hst hF hL (Nat.zero_le _) (Nat.zero_le _) (kI_go kk) kN_go
def f_X10_chain (a0 : Nat) (a1 : Int32) (a2 : Int32) (a3 : Int32) (M : gM) (K : Int32 → gM → Prop) : Prop :=
  ∀ P27 : Nat → Int32 → Int32 → Int32 → Int32 → Nat → gM → Prop,
  ∀ P49 : Nat → Int32 → Int32 → Int32 → Int32 → Nat → gM → Prop,
  ∀ P108 : Nat → Int32 → Int32 → Int32 → Int32 → gM → Prop,
  (∀ (v0 : Nat) (v1 : Int32) (v2 : Int32) (v3 : Int32) (s0 : Int32) (s1 : Nat) (M : gM), (kd M s1 = some (.inl 10) ∧ f_X10_throwsIf s1 s0 1 M (fun x13 M12 => if x13 = 0 then if v1 = v2 then P49 v0 v1 v2 v3 1 v0 M12 else if 0 ≤ v3 then P49 v0 v1 v2 v3 0 v0 M12 else P49 v0 v1 v2 v3 1 v0 M12 else K 0 M12)) → P27 v0 v1 v2 v3 s0 s1 M) →
  (∀ (v0 : Nat) (v1 : Int32) (v2 : Int32) (v3 : Int32) (s0 : Int32) (s1 : Nat) (M : gM), (kd M s1 = some (.inl 10) ∧ f_X10_throwsIf s1 s0 2 M (fun x19 M18 => if x19 = 0 then kd M18 v0 = some (.inl 10) ∧ f_X10_answers v0 v1 M18 (fun M22 => kd M22 v0 = some (.inl 10) ∧ f_X10_hasIn v0 v2 M22 (fun x25 M24 => if x25 < 0 then K (-1) M24 else kd M24 v0 = some (.inl 10) ∧ ∃ b28, rv M24 v0 34 = some b28 ∧ f_X10_at v2 x25 M24 (fun x31 M30 => inA M30 b28 0 x31 ∧ if v3 ≤ (iv M30 b28 (ix x31)) then kd M30 v0 = some (.inl 10) ∧ ∃ b35, rv M30 v0 34 = some b35 ∧ f_X10_at v2 x25 M30 (fun x38 M37 => inA M37 b35 0 x38 ∧ P108 v0 v3 x25 v2 (iv M37 b35 (ix x38)) M37) else K (-1) M30))) else K 0 M18)) → P49 v0 v1 v2 v3 s0 s1 M) →
  (∀ (v0 : Nat) (v3 : Int32) (v4 : Int32) (v5 : Int32) (v6 : Int32) (M : gM), (if v6 ≤ v3 then K v5 M else kd M v0 = some (.inl 10) ∧ f_X10_thrower v0 v5 v4 v6 M (fun x43 M42 => kd M42 v0 = some (.inl 10) ∧ P108 v0 v3 ((iv M42 v0 36) - 1) x43 (v6 + (-1)) M42)) → P108 v0 v3 v4 v5 v6 M) →
  kd M a0 = some (.inl 10) ∧ ∀ M2, M2 = sI M a0 0 0 → kd M2 a0 = some (.inl 10) ∧ f_X10_noPerson a0 a1 M2 (fun x5 M4 => if x5 = 0 then kd M4 a0 = some (.inl 10) ∧ f_X10_noPerson a0 a2 M4 (fun x9 M8 => if x9 = 0 then P27 a0 a1 a2 a3 0 a0 M8 else P27 a0 a1 a2 a3 1 a0 M8) else P27 a0 a1 a2 a3 1 a0 M4)
set_option maxHeartbeats 4000000 in
theorem m_X10_chain {l : Launch} (hl : l.stackTraces = false) {G : gG} {a0 : Nat} {a1 : Int32} {a2 : Int32} {a3 : Int32} {M : gM} {K : Int32 → gM → Prop} (hf : f_X10_chain a0 a1 a2 a3 M K) : gMet l G yX10_chain (ws_ yX10_chain cX10_chain 7 (some Jvm.ClassFile.FieldType.int)) ({ frames := 8, cells := 0, slots := 0, locals := 195 }) M [.ref a0, .int a1, .int a2, .int a3] (kI K) kN := by
  refine gm_of hl (ret := (some Jvm.ClassFile.FieldType.int)) rfl (Nat.le_of_ble_eq_true rfl) (fun X h hq => ?_)
  have h : hX l G X cX10_chain 7 "GlacierMailModel" 8 195 := h
  have hf := hf
  show V l G X 0 0 M 0 [(0, .ref a0), (1, .int a1), (2, .int a2), (3, .int a3)] []
  have hf := hf
    (fun v0 v1 v2 v3 s0 s1 M => V l G X 0 0 M 27 [(0, .ref v0), (1, .int v1), (2, .int v2), (3, .int v3)] [.int s0, .ref s1])
    (fun v0 v1 v2 v3 s0 s1 M => V l G X 0 0 M 49 [(0, .ref v0), (1, .int v1), (2, .int v2), (3, .int v3)] [.int s0, .ref s1])
    (fun v0 v3 v4 v5 v6 M => V l G X 0 0 M 108 [(0, .ref v0), (3, .int v3), (4, .int v4), (5, .int v5), (6, .int v6)] [])
    (by
      intro v0 v1 v2 v3 s0 s1 M hf
      show V l G X 0 0 M 27 [(0, .ref v0), (1, .int v1), (2, .int v2), (3, .int v3)] [.int s0, .ref s1]
      refine r_iconst (v := 1) h dX10_chain_27 (by decide) ?_
      obtain ⟨k11, hf⟩ := hf
      refine c1929 hl h dX10_chain_28 k11 hf (Nat.le_of_ble_eq_true rfl) (by decide) (by decide) (fun x13 M12 hf => ?_)
      refine r_if_ne (tgt := 56) h dX10_chain_31 (by decide) (fun c14 => ?_) (fun c14 => ?_)
      · have hf := ite_f c14 hf
        refine r_iconst (v := 0) h dX10_chain_56 (by decide) ?_
        exact r_ireturn h hq dX10_chain_57 ⟨_, rfl, hf⟩
      · have hf := ite_t c14 hf
        refine r_aload_n h 0 dX10_chain_34 rfl rfl ?_
        refine r_iload_n h 1 dX10_chain_35 rfl rfl ?_
        refine r_iload_n h 2 dX10_chain_36 rfl rfl ?_
        refine r_icmp_eq (tgt := 44) h dX10_chain_37 (by decide) (fun c15 => ?_) (fun c15 => ?_)
        · have hf := ite_t c15 hf
          refine r_iconst (v := 1) h dX10_chain_44 (by decide) ?_
          refine r_goto (tgt := 49) h dX10_chain_45 (by decide) ?_
          exact V.sub [0, 1, 2, 3] rfl hf
        · have hf := ite_f c15 hf
          refine r_iload_n h 3 dX10_chain_40 rfl rfl ?_
          refine r_if_ge (tgt := 48) h dX10_chain_41 (by decide) (fun c16 => ?_) (fun c16 => ?_)
          · have hf := ite_t c16 hf
            refine r_iconst (v := 0) h dX10_chain_48 (by decide) ?_
            exact V.sub [0, 1, 2, 3] rfl hf
          · have hf := ite_f c16 hf
            refine r_iconst (v := 1) h dX10_chain_44 (by decide) ?_
            refine r_goto (tgt := 49) h dX10_chain_45 (by decide) ?_
            exact V.sub [0, 1, 2, 3] rfl hf)
    (by
      intro v0 v1 v2 v3 s0 s1 M hf
      show V l G X 0 0 M 49 [(0, .ref v0), (1, .int v1), (2, .int v2), (3, .int v3)] [.int s0, .ref s1]
      refine r_iconst (v := 2) h dX10_chain_49 (by decide) ?_
      obtain ⟨k17, hf⟩ := hf
      refine c1929 hl h dX10_chain_50 k17 hf (Nat.le_of_ble_eq_true rfl) (by decide) (by decide) (fun x19 M18 hf => ?_)
      refine r_if_eq (tgt := 58) h dX10_chain_53 (by decide) (fun c20 => ?_) (fun c20 => ?_)
      · have hf := ite_t c20 hf
        refine r_aload_n h 0 dX10_chain_58 rfl rfl ?_
        refine r_iload_n h 1 dX10_chain_59 rfl rfl ?_
        obtain ⟨k21, hf⟩ := hf
        refine c2201 hl h dX10_chain_60 k21 hf (Nat.le_of_ble_eq_true rfl) (by decide) (by decide) (fun M22 hf => ?_)
        refine r_aload_n h 0 dX10_chain_63 rfl rfl ?_
        refine r_iload_n h 2 dX10_chain_64 rfl rfl ?_
        obtain ⟨k23, hf⟩ := hf
        refine c2212 hl h dX10_chain_65 k23 hf (Nat.le_of_ble_eq_true rfl) (by decide) (by decide) (fun x25 M24 hf => ?_)
        refine r_istore (lv' := [(4, .int x25), (0, .ref v0), (1, .int v1), (2, .int v2), (3, .int v3)]) h dX10_chain_68 (by decide) rfl ?_
        refine r_iload h 0 dX10_chain_70 rfl ?_
        refine r_if_lt (tgt := 90) h dX10_chain_72 (by decide) (fun c26 => ?_) (fun c26 => ?_)
        · have hf := ite_t c26 hf
          refine r_iconst (v := (-1)) h dX10_chain_90 (by decide) ?_
          exact r_ireturn h hq dX10_chain_91 ⟨_, rfl, hf⟩
        · have hf := ite_f c26 hf
          refine r_iload_n h 4 dX10_chain_75 rfl rfl ?_
          refine r_aload_n h 1 dX10_chain_76 rfl rfl ?_
          obtain ⟨k27, hf⟩ := hf
          obtain ⟨b28, e29, hf⟩ := hf
          refine g1631 h dX10_chain_77 k27 e29 ?_
          refine r_iload_n h 3 dX10_chain_80 rfl rfl ?_
          refine r_iload h 0 dX10_chain_81 rfl ?_
          refine c2205 hl h dX10_chain_83 hf (Nat.le_of_ble_eq_true rfl) (by decide) (by decide) (fun x31 M30 hf => ?_)
          obtain ⟨j32, hf⟩ := hf
          refine r_iaload h dX10_chain_86 j32 ?_
          refine r_icmp_le (tgt := 92) h dX10_chain_87 (by decide) (fun c33 => ?_) (fun c33 => ?_)
          · have hf := ite_t c33 hf
            refine r_iload_n h 3 dX10_chain_92 rfl rfl ?_
            refine r_istore (lv' := [(5, .int v2), (4, .int x25), (0, .ref v0), (1, .int v1), (2, .int v2), (3, .int v3)]) h dX10_chain_93 (by decide) rfl ?_
            refine r_aload_n h 2 dX10_chain_95 rfl rfl ?_
            obtain ⟨k34, hf⟩ := hf
            obtain ⟨b35, e36, hf⟩ := hf
            refine g1631 h dX10_chain_96 k34 e36 ?_
            refine r_iload_n h 4 dX10_chain_99 rfl rfl ?_
            refine r_iload h 1 dX10_chain_100 rfl ?_
            refine c2205 hl h dX10_chain_102 hf (Nat.le_of_ble_eq_true rfl) (by decide) (by decide) (fun x38 M37 hf => ?_)
            obtain ⟨j39, hf⟩ := hf
            refine r_iaload h dX10_chain_105 j39 ?_
            refine r_istore (lv' := [(6, .int (iv M37 b35 (ix x38))), (5, .int v2), (4, .int x25), (0, .ref v0), (1, .int v1), (2, .int v2), (3, .int v3)]) h dX10_chain_106 (by decide) rfl ?_
            exact V.sub [3, 6, 2, 1, 0] rfl hf
          · have hf := ite_f c33 hf
            refine r_iconst (v := (-1)) h dX10_chain_90 (by decide) ?_
            exact r_ireturn h hq dX10_chain_91 ⟨_, rfl, hf⟩
      · have hf := ite_f c20 hf
        refine r_iconst (v := 0) h dX10_chain_56 (by decide) ?_
        exact r_ireturn h hq dX10_chain_57 ⟨_, rfl, hf⟩)
    (by
      intro v0 v3 v4 v5 v6 M hf
      show V l G X 0 0 M 108 [(0, .ref v0), (3, .int v3), (4, .int v4), (5, .int v5), (6, .int v6)] []
      refine r_iload h 4 dX10_chain_108 rfl ?_
      refine r_iload_n h 1 dX10_chain_110 rfl rfl ?_
      refine r_icmp_le (tgt := 140) h dX10_chain_111 (by decide) (fun c40 => ?_) (fun c40 => ?_)
      · have hf := ite_t c40 hf
        refine r_iload h 3 dX10_chain_140 rfl ?_
        exact r_ireturn h hq dX10_chain_142 ⟨_, rfl, hf⟩
      · have hf := ite_f c40 hf
        refine r_aload_n h 0 dX10_chain_114 rfl rfl ?_
        refine r_iload h 3 dX10_chain_115 rfl ?_
        refine r_iload h 2 dX10_chain_117 rfl ?_
        refine r_iload h 4 dX10_chain_119 rfl ?_
        obtain ⟨k41, hf⟩ := hf
        refine c2220 hl h dX10_chain_121 k41 hf (Nat.le_of_ble_eq_true rfl) (by decide) (by decide) (fun x43 M42 hf => ?_)
        refine r_istore (lv' := [(5, .int x43), (0, .ref v0), (3, .int v3), (4, .int v4), (6, .int v6)]) h dX10_chain_124 (by decide) rfl ?_
        refine r_aload_n h 1 dX10_chain_126 rfl rfl ?_
        obtain ⟨k44, hf⟩ := hf
        refine g1633 h dX10_chain_127 k44 ?_
        refine r_iconst (v := 1) h dX10_chain_130 (by decide) ?_
        refine r_isub h dX10_chain_131 ?_
        refine r_istore (lv' := [(4, .int ((iv M42 v0 36) - 1)), (5, .int x43), (0, .ref v0), (3, .int v3), (6, .int v6)]) h dX10_chain_132 (by decide) rfl ?_
        refine r_iinc (v := v6 + (-1)) (lv' := [(6, .int (v6 + (-1))), (4, .int ((iv M42 v0 36) - 1)), (5, .int x43), (0, .ref v0), (3, .int v3)]) h 4 dX10_chain_134 rfl rfl (by decide) rfl ?_
        refine r_goto (tgt := 108) h dX10_chain_137 (by decide) ?_
        exact V.sub [3, 4, 1, 2, 0] rfl hf)
  refine r_aload_n h 0 dX10_chain_0 rfl rfl ?_
  refine r_iconst (v := 0) h dX10_chain_1 (by decide) ?_
  obtain ⟨k1, hf⟩ := hf
  refine p1597 h dX10_chain_2 k1 ?_
  refine r_goW (fun M2 eM2 => ?_)
  have hf := hf M2 eM2
  refine r_aload_n h 0 dX10_chain_5 rfl rfl ?_
  refine r_aload_n h 0 dX10_chain_6 rfl rfl ?_
  refine r_iload_n h 1 dX10_chain_7 rfl rfl ?_
  obtain ⟨k3, hf⟩ := hf
  refine c1993 hl h dX10_chain_8 k3 hf (Nat.le_of_ble_eq_true rfl) (by decide) (by decide) (fun x5 M4 hf => ?_)
  refine r_if_ne (tgt := 22) h dX10_chain_11 (by decide) (fun c6 => ?_) (fun c6 => ?_)
  · have hf := ite_f c6 hf
    refine r_iconst (v := 1) h dX10_chain_22 (by decide) ?_
    refine r_goto (tgt := 27) h dX10_chain_23 (by decide) ?_
    exact V.sub [0, 1, 2, 3] rfl hf
  · have hf := ite_t c6 hf
    refine r_aload_n h 0 dX10_chain_14 rfl rfl ?_
    refine r_iload_n h 2 dX10_chain_15 rfl rfl ?_
    obtain ⟨k7, hf⟩ := hf
    refine c1993 hl h dX10_chain_16 k7 hf (Nat.le_of_ble_eq_true rfl) (by decide) (by decide) (fun x9 M8 hf => ?_)
    refine r_if_eq (tgt := 26) h dX10_chain_19 (by decide) (fun c10 => ?_) (fun c10 => ?_)
    · have hf := ite_t c10 hf
      refine r_iconst (v := 0) h dX10_chain_26 (by decide) ?_
      exact V.sub [0, 1, 2, 3] rfl hf
    · have hf := ite_f c10 hf
      refine r_iconst (v := 1) h dX10_chain_22 (by decide) ?_
      refine r_goto (tgt := 27) h dX10_chain_23 (by decide) ?_
      exact V.sub [0, 1, 2, 3] rfl hf
theorem c2216 {l : Launch} {G : gG} {X : gX} {cc : ByteArray} {nL F L bc bs pc : Nat} {M : gM} {lv : List (Nat × Value)} {rest : List Value} {a0 : Nat} {a1 : Int32} {a2 : Int32} {a3 : Int32} {K : Int32 → gM → Prop} (hl : l.stackTraces = false) (h : hX l G X cc nL "GlacierMailLaw" F L) (d : decode cc pc = .ok (.invokevirtual 254, 3)) (hk : kd M a0 = some (.inl 10)) (hf : f_X10_chain a0 a1 a2 a3 M K) (hst : (rest.map fun v => v.category).sum ≤ 8) (hF : 9 ≤ F) (hL : 221 ≤ L) (kk : ∀ x M1, K x M1 → V l G X bc bs M1 (pc + 3) lv (.int x :: rest)) : V l G X bc bs M pc lv (.int a3 :: .int a2 :: .int a1 :: .ref a0 :: rest) := r_callV (n := 3) (As := [.int a1, .int a2, .int a3]) h (m_X10_chain hl hf) 10 rfl hk rfl ⟨by decide, by decide, by decide +kernel⟩ d q2216 q2217 q2218 q147 q2219 rfl rfl hst hF hL (Nat.zero_le _) (Nat.zero_le _) (kI_go kk) kN_go
def f_X10_reached (a0 : Nat) (a1 : Int32) (a2 : Int32) (M : gM) (K : Int32 → gM → Prop) : Prop :=
  ∀ P44 : Nat → Int32 → Int32 → Int32 → gM → Prop,
  (∀ (v0 : Nat) (v2 : Int32) (v3 : Int32) (v4 : Int32) (M : gM), (kd M v0 = some (.inl 10) ∧ f_X10_people v0 M (fun x20 M19 => if x20 ≤ v4 then K v3 M19 else kd M19 v0 = some (.inl 10) ∧ f_X10_hasIn v0 v4 M19 (fun x24 M23 => if x24 < 0 then P44 v0 v2 (v3 ||| 0) (v4 + 1) M23 else if v2 < x24 then P44 v0 v2 (v3 ||| 0) (v4 + 1) M23 else P44 v0 v2 (v3 ||| ((1 : Int32) <<< (v4 &&& 31))) (v4 + 1) M23))) → P44 v0 v2 v3 v4 M) →
  kd M a0 = some (.inl 10) ∧ ∀ M2, M2 = sI M a0 0 0 → kd M2 a0 = some (.inl 10) ∧ f_X10_noPerson a0 a1 M2 (fun x5 M4 => kd M4 a0 = some (.inl 10) ∧ f_X10_throwsIf a0 x5 1 M4 (fun x8 M7 => if x8 = 0 then f_X10_noYear a2 M7 (fun x11 M10 => kd M10 a0 = some (.inl 10) ∧ f_X10_throwsIf a0 x11 2 M10 (fun x14 M13 => if x14 = 0 then kd M13 a0 = some (.inl 10) ∧ f_X10_answers a0 a1 M13 (fun M17 => P44 a0 a2 ((1 : Int32) <<< (a1 &&& 31)) 0 M17) else K 0 M13)) else K 0 M7))
set_option maxHeartbeats 4000000 in
theorem m_X10_reached {l : Launch} (hl : l.stackTraces = false) {G : gG} {a0 : Nat} {a1 : Int32} {a2 : Int32} {M : gM} {K : Int32 → gM → Prop} (hf : f_X10_reached a0 a1 a2 M K) : gMet l G yX10_reached (ws_ yX10_reached cX10_reached 6 (some Jvm.ClassFile.FieldType.int)) ({ frames := 8, cells := 0, slots := 0, locals := 195 }) M [.ref a0, .int a1, .int a2] (kI K) kN := by
  refine gm_of hl (ret := (some Jvm.ClassFile.FieldType.int)) rfl (Nat.le_of_ble_eq_true rfl) (fun X h hq => ?_)
  have h : hX l G X cX10_reached 6 "GlacierMailModel" 8 195 := h
  have hf := hf
  show V l G X 0 0 M 0 [(0, .ref a0), (1, .int a1), (2, .int a2)] []
  have hf := hf
    (fun v0 v2 v3 v4 M => V l G X 0 0 M 44 [(0, .ref v0), (2, .int v2), (3, .int v3), (4, .int v4)] [])
    (by
      intro v0 v2 v3 v4 M hf
      show V l G X 0 0 M 44 [(0, .ref v0), (2, .int v2), (3, .int v3), (4, .int v4)] []
      refine r_iload h 3 dX10_reached_44 rfl ?_
      refine r_aload_n h 0 dX10_reached_46 rfl rfl ?_
      obtain ⟨k18, hf⟩ := hf
      refine c1786 hl h dX10_reached_47 k18 hf (Nat.le_of_ble_eq_true rfl) (by decide) (by decide) (fun x20 M19 hf => ?_)
      refine r_icmp_ge (tgt := 89) h dX10_reached_50 (by decide) (fun c21 => ?_) (fun c21 => ?_)
      · have hf := ite_t c21 hf
        refine r_iload_n h 2 dX10_reached_89 rfl rfl ?_
        exact r_ireturn h hq dX10_reached_90 ⟨_, rfl, hf⟩
      · have hf := ite_f c21 hf
        refine r_aload_n h 0 dX10_reached_53 rfl rfl ?_
        refine r_iload h 3 dX10_reached_54 rfl ?_
        obtain ⟨k22, hf⟩ := hf
        refine c2212 hl h dX10_reached_56 k22 hf (Nat.le_of_ble_eq_true rfl) (by decide) (by decide) (fun x24 M23 hf => ?_)
        refine r_istore (lv' := [(5, .int x24), (0, .ref v0), (2, .int v2), (3, .int v3), (4, .int v4)]) h dX10_reached_59 (by decide) rfl ?_
        refine r_iload_n h 3 dX10_reached_61 rfl rfl ?_
        refine r_iload h 0 dX10_reached_62 rfl ?_
        refine r_if_lt (tgt := 80) h dX10_reached_64 (by decide) (fun c25 => ?_) (fun c25 => ?_)
        · have hf := ite_t c25 hf
          refine r_iconst (v := 0) h dX10_reached_80 (by decide) ?_
          refine r_ior h dX10_reached_81 ?_
          refine r_istore_n (lv' := [(3, .int (v3 ||| 0)), (5, .int x24), (0, .ref v0), (2, .int v2), (4, .int v4)]) h dX10_reached_82 rfl (by decide) rfl ?_
          refine r_iinc (v := v4 + 1) (lv' := [(4, .int (v4 + 1)), (3, .int (v3 ||| 0)), (5, .int x24), (0, .ref v0), (2, .int v2)]) h 4 dX10_reached_83 rfl rfl (by decide) rfl ?_
          refine r_goto (tgt := 44) h dX10_reached_86 (by decide) ?_
          exact V.sub [3, 4, 1, 0] rfl hf
        · have hf := ite_f c25 hf
          refine r_iload h 0 dX10_reached_67 rfl ?_
          refine r_iload_n h 2 dX10_reached_69 rfl rfl ?_
          refine r_icmp_gt (tgt := 80) h dX10_reached_70 (by decide) (fun c26 => ?_) (fun c26 => ?_)
          · have hf := ite_t c26 hf
            refine r_iconst (v := 0) h dX10_reached_80 (by decide) ?_
            refine r_ior h dX10_reached_81 ?_
            refine r_istore_n (lv' := [(3, .int (v3 ||| 0)), (5, .int x24), (0, .ref v0), (2, .int v2), (4, .int v4)]) h dX10_reached_82 rfl (by decide) rfl ?_
            refine r_iinc (v := v4 + 1) (lv' := [(4, .int (v4 + 1)), (3, .int (v3 ||| 0)), (5, .int x24), (0, .ref v0), (2, .int v2)]) h 4 dX10_reached_83 rfl rfl (by decide) rfl ?_
            refine r_goto (tgt := 44) h dX10_reached_86 (by decide) ?_
            exact V.sub [3, 4, 1, 0] rfl hf
          · have hf := ite_f c26 hf
            refine r_iconst (v := 1) h dX10_reached_73 (by decide) ?_
            refine r_iload h 4 dX10_reached_74 rfl ?_
            refine r_ishl h dX10_reached_76 ?_
            refine r_goto (tgt := 81) h dX10_reached_77 (by decide) ?_
            refine r_ior h dX10_reached_81 ?_
            refine r_istore_n (lv' := [(3, .int (v3 ||| ((1 : Int32) <<< (v4 &&& 31)))), (5, .int x24), (0, .ref v0), (2, .int v2), (4, .int v4)]) h dX10_reached_82 rfl (by decide) rfl ?_
            refine r_iinc (v := v4 + 1) (lv' := [(4, .int (v4 + 1)), (3, .int (v3 ||| ((1 : Int32) <<< (v4 &&& 31)))), (5, .int x24), (0, .ref v0), (2, .int v2)]) h 4 dX10_reached_83 rfl rfl (by decide) rfl ?_
            refine r_goto (tgt := 44) h dX10_reached_86 (by decide) ?_
            exact V.sub [3, 4, 1, 0] rfl hf)
  refine r_aload_n h 0 dX10_reached_0 rfl rfl ?_
  refine r_iconst (v := 0) h dX10_reached_1 (by decide) ?_
  obtain ⟨k1, hf⟩ := hf
  refine p1597 h dX10_reached_2 k1 ?_
  refine r_goW (fun M2 eM2 => ?_)
  have hf := hf M2 eM2
  refine r_aload_n h 0 dX10_reached_5 rfl rfl ?_
  refine r_aload_n h 0 dX10_reached_6 rfl rfl ?_
  refine r_iload_n h 1 dX10_reached_7 rfl rfl ?_
  obtain ⟨k3, hf⟩ := hf
  refine c1993 hl h dX10_reached_8 k3 hf (Nat.le_of_ble_eq_true rfl) (by decide) (by decide) (fun x5 M4 hf => ?_)
  refine r_iconst (v := 1) h dX10_reached_11 (by decide) ?_
  obtain ⟨k6, hf⟩ := hf
  refine c1929 hl h dX10_reached_12 k6 hf (Nat.le_of_ble_eq_true rfl) (by decide) (by decide) (fun x8 M7 hf => ?_)
  refine r_if_ne (tgt := 30) h dX10_reached_15 (by decide) (fun c9 => ?_) (fun c9 => ?_)
  · have hf := ite_f c9 hf
    refine r_iconst (v := 0) h dX10_reached_30 (by decide) ?_
    exact r_ireturn h hq dX10_reached_31 ⟨_, rfl, hf⟩
  · have hf := ite_t c9 hf
    refine r_aload_n h 0 dX10_reached_18 rfl rfl ?_
    refine r_iload_n h 2 dX10_reached_19 rfl rfl ?_
    refine c1941 hl h dX10_reached_20 hf (Nat.le_of_ble_eq_true rfl) (by decide) (by decide) (fun x11 M10 hf => ?_)
    refine r_iconst (v := 2) h dX10_reached_23 (by decide) ?_
    obtain ⟨k12, hf⟩ := hf
    refine c1929 hl h dX10_reached_24 k12 hf (Nat.le_of_ble_eq_true rfl) (by decide) (by decide) (fun x14 M13 hf => ?_)
    refine r_if_eq (tgt := 32) h dX10_reached_27 (by decide) (fun c15 => ?_) (fun c15 => ?_)
    · have hf := ite_t c15 hf
      refine r_aload_n h 0 dX10_reached_32 rfl rfl ?_
      refine r_iload_n h 1 dX10_reached_33 rfl rfl ?_
      obtain ⟨k16, hf⟩ := hf
      refine c2201 hl h dX10_reached_34 k16 hf (Nat.le_of_ble_eq_true rfl) (by decide) (by decide) (fun M17 hf => ?_)
      refine r_iconst (v := 1) h dX10_reached_37 (by decide) ?_
      refine r_iload_n h 1 dX10_reached_38 rfl rfl ?_
      refine r_ishl h dX10_reached_39 ?_
      refine r_istore_n (lv' := [(3, .int ((1 : Int32) <<< (a1 &&& 31))), (0, .ref a0), (1, .int a1), (2, .int a2)]) h dX10_reached_40 rfl (by decide) rfl ?_
      refine r_iconst (v := 0) h dX10_reached_41 (by decide) ?_
      refine r_istore (lv' := [(4, .int 0), (3, .int ((1 : Int32) <<< (a1 &&& 31))), (0, .ref a0), (1, .int a1), (2, .int a2)]) h dX10_reached_42 (by decide) rfl ?_
      exact V.sub [2, 4, 1, 0] rfl hf
    · have hf := ite_f c15 hf
      refine r_iconst (v := 0) h dX10_reached_30 (by decide) ?_
      exact r_ireturn h hq dX10_reached_31 ⟨_, rfl, hf⟩
theorem c2224 {l : Launch} {G : gG} {X : gX} {cc : ByteArray} {nL F L bc bs pc : Nat} {M : gM} {lv : List (Nat × Value)} {rest : List Value} {a0 : Nat} {a1 : Int32} {a2 : Int32} {K : Int32 → gM → Prop} (hl : l.stackTraces = false) (h : hX l G X cc nL "GlacierMailLaw" F L) (d : decode cc pc = .ok (.invokevirtual 257, 3)) (hk : kd M a0 = some (.inl 10)) (hf : f_X10_reached a0 a1 a2 M K) (hst : (rest.map fun v => v.category).sum ≤ 8) (hF : 9 ≤ F) (hL : 220 ≤ L) (kk : ∀ x M1, K x M1 → V l G X bc bs M1 (pc + 3) lv (.int x :: rest)) : V l G X bc bs M pc lv (.int a2 :: .int a1 :: .ref a0 :: rest) := r_callV (n := 2) (As := [.int a1, .int a2]) h (m_X10_reached hl hf) 10 rfl hk rfl ⟨by decide, by decide, by decide +kernel⟩ d q2224 q2225 q2226 q147 q2227 rfl rfl hst hF hL (Nat.zero_le _) (Nat.zero_le _) (kI_go kk) kN_go
def f_X10_steals (a0 : Nat) (a1 : Int32) (M : gM) (K : gM → Prop) : Prop :=
  ∀ P6 : Nat → Int32 → Int32 → gM → Prop,
  ∀ P34 : Nat → Int32 → Int32 → gM → Prop,
  ∀ P44 : Nat → Int32 → Int32 → Int32 → gM → Prop,
  ∀ P91 : Nat → Int32 → Int32 → Int32 → Int32 → gM → Prop,
  ∀ P128 : Nat → Int32 → Int32 → Int32 → Int32 → gM → Prop,
  ∀ P152 : Nat → Int32 → Int32 → Int32 → gM → Prop,
  (∀ (v0 : Nat) (v1 : Int32) (v2 : Int32) (M : gM), (if 6 ≤ v2 then kd M v0 = some (.inl 10) ∧ f_X10_now v0 M (fun x6 M5 => P34 v0 v1 ((x6 + v1) - 1) M5) else kd M v0 = some (.inl 10) ∧ ∃ b8, rv M v0 37 = some b8 ∧ inA M b8 0 v2 ∧ ∀ M11, M11 = sI M b8 (ix v2) 0 → P6 v0 v1 (v2 + 1) M11) → P6 v0 v1 v2 M) →
  (∀ (v0 : Nat) (v1 : Int32) (v2 : Int32) (M : gM), (kd M v0 = some (.inl 10) ∧ f_X10_now v0 M (fun x14 M13 => if v2 < x14 then K M13 else P44 v0 v1 v2 0 M13)) → P34 v0 v1 v2 M) →
  (∀ (v0 : Nat) (v1 : Int32) (v2 : Int32) (v3 : Int32) (M : gM), (kd M v0 = some (.inl 10) ∧ f_X10_lanes v0 M (fun x18 M17 => if x18 ≤ v3 then P152 v0 v1 v2 0 M17 else kd M17 v0 = some (.inl 10) ∧ ∃ b21, rv M17 v0 37 = some b21 ∧ inA M17 b21 0 v3 ∧ f_X10_now v0 M17 (fun x25 M24 => if ((x25 + v1) - 1) ≤ v2 then P91 v0 v1 v2 v3 (iv M17 b21 (ix v3)) M24 else if v3 ≤ 0 then P91 v0 v1 v2 v3 (iv M17 b21 (ix v3)) M24 else kd M24 v0 = some (.inl 10) ∧ ∃ b29, rv M24 v0 37 = some b29 ∧ inA M24 b29 0 (v3 - 1) ∧ ∀ x32, x32 = (if (iv M17 b21 (ix v3)) < (iv M24 b29 (ix (v3 - 1))) then (iv M24 b29 (ix (v3 - 1))) else (iv M17 b21 (ix v3))) → P91 v0 v1 v2 v3 x32 M24))) → P44 v0 v1 v2 v3 M) →
  (∀ (v0 : Nat) (v1 : Int32) (v2 : Int32) (v3 : Int32) (v4 : Int32) (M : gM), (kd M v0 = some (.inl 10) ∧ f_X10_now v0 M (fun x35 M34 => if ((x35 + v1) - 1) ≤ v2 then P128 v0 v1 v2 v3 v4 M34 else kd M34 v0 = some (.inl 10) ∧ f_X10_lanes v0 M34 (fun x39 M38 => if x39 ≤ (v3 + 1) then P128 v0 v1 v2 v3 v4 M38 else kd M38 v0 = some (.inl 10) ∧ ∃ b42, rv M38 v0 37 = some b42 ∧ inA M38 b42 0 (v3 + 1) ∧ ∀ x45, x45 = (if v4 < (iv M38 b42 (ix (v3 + 1))) then (iv M38 b42 (ix (v3 + 1))) else v4) → P128 v0 v1 v2 v3 x45 M38))) → P91 v0 v1 v2 v3 v4 M) →
  (∀ (v0 : Nat) (v1 : Int32) (v2 : Int32) (v3 : Int32) (v4 : Int32) (M : gM), (kd M v0 = some (.inl 10) ∧ ∃ b47, rv M v0 38 = some b47 ∧ f_X10_outsIn v0 v2 v3 0 M (fun x50 M49 => inA M49 b47 0 v3 ∧ ∀ M52, M52 = sI M49 b47 (ix v3) (v4 + x50) → P44 v0 v1 v2 (v3 + 1) M52)) → P128 v0 v1 v2 v3 v4 M) →
  (∀ (v0 : Nat) (v1 : Int32) (v2 : Int32) (v3 : Int32) (M : gM), (kd M v0 = some (.inl 10) ∧ f_X10_lanes v0 M (fun x55 M54 => if x55 ≤ v3 then P34 v0 v1 (v2 + (-1)) M54 else kd M54 v0 = some (.inl 10) ∧ ∃ b58, rv M54 v0 37 = some b58 ∧ ∃ b60, rv M54 v0 38 = some b60 ∧ inA M54 b60 0 v3 ∧ inA M54 b58 0 v3 ∧ ∀ M64, M64 = sI M54 b58 (ix v3) (iv M54 b60 (ix v3)) → P152 v0 v1 v2 (v3 + 1) M64)) → P152 v0 v1 v2 v3 M) →
  kd M a0 = some (.inl 10) ∧ f_X10_outsAll a0 M (fun M2 => P6 a0 a1 0 M2)
set_option maxHeartbeats 4000000 in
theorem m_X10_steals {l : Launch} (hl : l.stackTraces = false) {G : gG} {a0 : Nat} {a1 : Int32} {M : gM} {K : gM → Prop} (hf : f_X10_steals a0 a1 M K) : gMet l G yX10_steals (ws_ yX10_steals cX10_steals 5 none) ({ frames := 9, cells := 0, slots := 0, locals := 210 }) M [.ref a0, .int a1] (kV K) kN := by
  refine gm_of hl (ret := none) rfl (Nat.le_of_ble_eq_true rfl) (fun X h hq => ?_)
  have h : hX l G X cX10_steals 5 "GlacierMailModel" 9 210 := h
  have hf := hf
  show V l G X 0 0 M 0 [(0, .ref a0), (1, .int a1)] []
  have hf := hf
    (fun v0 v1 v2 M => V l G X 0 0 M 6 [(0, .ref v0), (1, .int v1), (2, .int v2)] [])
    (fun v0 v1 v2 M => V l G X 0 0 M 34 [(0, .ref v0), (1, .int v1), (2, .int v2)] [])
    (fun v0 v1 v2 v3 M => V l G X 0 0 M 44 [(0, .ref v0), (1, .int v1), (2, .int v2), (3, .int v3)] [])
    (fun v0 v1 v2 v3 v4 M => V l G X 0 0 M 91 [(0, .ref v0), (1, .int v1), (2, .int v2), (3, .int v3), (4, .int v4)] [])
    (fun v0 v1 v2 v3 v4 M => V l G X 0 0 M 128 [(0, .ref v0), (1, .int v1), (2, .int v2), (3, .int v3), (4, .int v4)] [])
    (fun v0 v1 v2 v3 M => V l G X 0 0 M 152 [(0, .ref v0), (1, .int v1), (2, .int v2), (3, .int v3)] [])
    (by
      intro v0 v1 v2 M hf
      show V l G X 0 0 M 6 [(0, .ref v0), (1, .int v1), (2, .int v2)] []
      refine r_iload_n h 2 dX10_steals_6 rfl rfl ?_
      refine r_bipush (v := 6) h dX10_steals_7 (by decide) ?_
      refine r_icmp_ge (tgt := 25) h dX10_steals_9 (by decide) (fun c3 => ?_) (fun c3 => ?_)
      · have hf := ite_t c3 hf
        refine r_aload_n h 0 dX10_steals_25 rfl rfl ?_
        obtain ⟨k4, hf⟩ := hf
        refine c1843 hl h dX10_steals_26 k4 hf (Nat.le_of_ble_eq_true rfl) (by decide) (by decide) (fun x6 M5 hf => ?_)
        refine r_iload_n h 1 dX10_steals_29 rfl rfl ?_
        refine r_iadd h dX10_steals_30 ?_
        refine r_iconst (v := 1) h dX10_steals_31 (by decide) ?_
        refine r_isub h dX10_steals_32 ?_
        refine r_istore_n (lv' := [(2, .int ((x6 + v1) - 1)), (0, .ref v0), (1, .int v1)]) h dX10_steals_33 rfl (by decide) rfl ?_
        exact V.sub [1, 2, 0] rfl hf
      · have hf := ite_f c3 hf
        refine r_aload_n h 0 dX10_steals_12 rfl rfl ?_
        obtain ⟨k7, hf⟩ := hf
        obtain ⟨b8, e9, hf⟩ := hf
        refine g1634 h dX10_steals_13 k7 e9 ?_
        refine r_iload_n h 2 dX10_steals_16 rfl rfl ?_
        refine r_iconst (v := 0) h dX10_steals_17 (by decide) ?_
        obtain ⟨j10, hf⟩ := hf
        refine r_iastore h dX10_steals_18 j10 ?_
        refine r_goW (fun M11 eM11 => ?_)
        have hf := hf M11 eM11
        refine r_iinc (v := v2 + 1) (lv' := [(2, .int (v2 + 1)), (0, .ref v0), (1, .int v1)]) h 2 dX10_steals_19 rfl rfl (by decide) rfl ?_
        refine r_goto (tgt := 6) h dX10_steals_22 (by decide) ?_
        exact V.sub [1, 2, 0] rfl hf)
    (by
      intro v0 v1 v2 M hf
      show V l G X 0 0 M 34 [(0, .ref v0), (1, .int v1), (2, .int v2)] []
      refine r_iload_n h 2 dX10_steals_34 rfl rfl ?_
      refine r_aload_n h 0 dX10_steals_35 rfl rfl ?_
      obtain ⟨k12, hf⟩ := hf
      refine c1843 hl h dX10_steals_36 k12 hf (Nat.le_of_ble_eq_true rfl) (by decide) (by decide) (fun x14 M13 hf => ?_)
      refine r_icmp_lt (tgt := 184) h dX10_steals_39 (by decide) (fun c15 => ?_) (fun c15 => ?_)
      · have hf := ite_t c15 hf
        exact r_return h hq dX10_steals_184 ⟨rfl, hf⟩
      · have hf := ite_f c15 hf
        refine r_iconst (v := 0) h dX10_steals_42 (by decide) ?_
        refine r_istore_n (lv' := [(3, .int 0), (0, .ref v0), (1, .int v1), (2, .int v2)]) h dX10_steals_43 rfl (by decide) rfl ?_
        exact V.sub [1, 2, 3, 0] rfl hf)
    (by
      intro v0 v1 v2 v3 M hf
      show V l G X 0 0 M 44 [(0, .ref v0), (1, .int v1), (2, .int v2), (3, .int v3)] []
      refine r_iload_n h 3 dX10_steals_44 rfl rfl ?_
      refine r_aload_n h 0 dX10_steals_45 rfl rfl ?_
      obtain ⟨k16, hf⟩ := hf
      refine c1820 hl h dX10_steals_46 k16 hf (Nat.le_of_ble_eq_true rfl) (by decide) (by decide) (fun x18 M17 hf => ?_)
      refine r_icmp_ge (tgt := 150) h dX10_steals_49 (by decide) (fun c19 => ?_) (fun c19 => ?_)
      · have hf := ite_t c19 hf
        refine r_iconst (v := 0) h dX10_steals_150 (by decide) ?_
        refine r_istore_n (lv' := [(3, .int 0), (0, .ref v0), (1, .int v1), (2, .int v2)]) h dX10_steals_151 rfl (by decide) rfl ?_
        exact V.sub [1, 2, 3, 0] rfl hf
      · have hf := ite_f c19 hf
        refine r_aload_n h 0 dX10_steals_52 rfl rfl ?_
        obtain ⟨k20, hf⟩ := hf
        obtain ⟨b21, e22, hf⟩ := hf
        refine g1634 h dX10_steals_53 k20 e22 ?_
        refine r_iload_n h 3 dX10_steals_56 rfl rfl ?_
        obtain ⟨j23, hf⟩ := hf
        refine r_iaload h dX10_steals_57 j23 ?_
        refine r_istore (lv' := [(4, .int (iv M17 b21 (ix v3))), (0, .ref v0), (1, .int v1), (2, .int v2), (3, .int v3)]) h dX10_steals_58 (by decide) rfl ?_
        refine r_iload_n h 3 dX10_steals_60 rfl rfl ?_
        refine r_aload_n h 1 dX10_steals_61 rfl rfl ?_
        refine c1843 hl h dX10_steals_62 k20 hf (Nat.le_of_ble_eq_true rfl) (by decide) (by decide) (fun x25 M24 hf => ?_)
        refine r_iload_n h 2 dX10_steals_65 rfl rfl ?_
        refine r_iadd h dX10_steals_66 ?_
        refine r_iconst (v := 1) h dX10_steals_67 (by decide) ?_
        refine r_isub h dX10_steals_68 ?_
        refine r_icmp_ge (tgt := 91) h dX10_steals_69 (by decide) (fun c26 => ?_) (fun c26 => ?_)
        · have hf := ite_t c26 hf
          exact V.sub [1, 2, 3, 4, 0] rfl hf
        · have hf := ite_f c26 hf
          refine r_iload_n h 4 dX10_steals_72 rfl rfl ?_
          refine r_if_le (tgt := 91) h dX10_steals_73 (by decide) (fun c27 => ?_) (fun c27 => ?_)
          · have hf := ite_t c27 hf
            exact V.sub [1, 2, 3, 4, 0] rfl hf
          · have hf := ite_f c27 hf
            refine r_iload h 0 dX10_steals_76 rfl ?_
            refine r_aload_n h 1 dX10_steals_78 rfl rfl ?_
            obtain ⟨k28, hf⟩ := hf
            obtain ⟨b29, e30, hf⟩ := hf
            refine g1634 h dX10_steals_79 k28 e30 ?_
            refine r_iload_n h 4 dX10_steals_82 rfl rfl ?_
            refine r_iconst (v := 1) h dX10_steals_83 (by decide) ?_
            refine r_isub h dX10_steals_84 ?_
            obtain ⟨j31, hf⟩ := hf
            refine r_iaload h dX10_steals_85 j31 ?_
            refine r_mmax h q1988 q732 q165 q733 dX10_steals_86 (by decide) (by decide) (Nat.le_of_ble_eq_true rfl) ?_
            refine r_nam (fun x32 ex32 => ?_)
            have hf := hf x32 ex32
            refine r_istore (lv' := [(4, .int x32), (0, .ref v0), (1, .int v1), (2, .int v2), (3, .int v3)]) h dX10_steals_89 (by decide) rfl ?_
            exact V.sub [1, 2, 3, 4, 0] rfl hf)
    (by
      intro v0 v1 v2 v3 v4 M hf
      show V l G X 0 0 M 91 [(0, .ref v0), (1, .int v1), (2, .int v2), (3, .int v3), (4, .int v4)] []
      refine r_iload_n h 2 dX10_steals_91 rfl rfl ?_
      refine r_aload_n h 0 dX10_steals_92 rfl rfl ?_
      obtain ⟨k33, hf⟩ := hf
      refine c1843 hl h dX10_steals_93 k33 hf (Nat.le_of_ble_eq_true rfl) (by decide) (by decide) (fun x35 M34 hf => ?_)
      refine r_iload_n h 1 dX10_steals_96 rfl rfl ?_
      refine r_iadd h dX10_steals_97 ?_
      refine r_iconst (v := 1) h dX10_steals_98 (by decide) ?_
      refine r_isub h dX10_steals_99 ?_
      refine r_icmp_ge (tgt := 128) h dX10_steals_100 (by decide) (fun c36 => ?_) (fun c36 => ?_)
      · have hf := ite_t c36 hf
        exact V.sub [0, 1, 2, 3, 4] rfl hf
      · have hf := ite_f c36 hf
        refine r_iload_n h 3 dX10_steals_103 rfl rfl ?_
        refine r_iconst (v := 1) h dX10_steals_104 (by decide) ?_
        refine r_iadd h dX10_steals_105 ?_
        refine r_aload_n h 0 dX10_steals_106 rfl rfl ?_
        obtain ⟨k37, hf⟩ := hf
        refine c1820 hl h dX10_steals_107 k37 hf (Nat.le_of_ble_eq_true rfl) (by decide) (by decide) (fun x39 M38 hf => ?_)
        refine r_icmp_ge (tgt := 128) h dX10_steals_110 (by decide) (fun c40 => ?_) (fun c40 => ?_)
        · have hf := ite_t c40 hf
          exact V.sub [0, 1, 2, 3, 4] rfl hf
        · have hf := ite_f c40 hf
          refine r_iload h 4 dX10_steals_113 rfl ?_
          refine r_aload_n h 0 dX10_steals_115 rfl rfl ?_
          obtain ⟨k41, hf⟩ := hf
          obtain ⟨b42, e43, hf⟩ := hf
          refine g1634 h dX10_steals_116 k41 e43 ?_
          refine r_iload_n h 3 dX10_steals_119 rfl rfl ?_
          refine r_iconst (v := 1) h dX10_steals_120 (by decide) ?_
          refine r_iadd h dX10_steals_121 ?_
          obtain ⟨j44, hf⟩ := hf
          refine r_iaload h dX10_steals_122 j44 ?_
          refine r_mmax h q1988 q732 q165 q733 dX10_steals_123 (by decide) (by decide) (Nat.le_of_ble_eq_true rfl) ?_
          refine r_nam (fun x45 ex45 => ?_)
          have hf := hf x45 ex45
          refine r_istore (lv' := [(4, .int x45), (0, .ref v0), (1, .int v1), (2, .int v2), (3, .int v3)]) h dX10_steals_126 (by decide) rfl ?_
          exact V.sub [1, 2, 3, 4, 0] rfl hf)
    (by
      intro v0 v1 v2 v3 v4 M hf
      show V l G X 0 0 M 128 [(0, .ref v0), (1, .int v1), (2, .int v2), (3, .int v3), (4, .int v4)] []
      refine r_aload_n h 0 dX10_steals_128 rfl rfl ?_
      obtain ⟨k46, hf⟩ := hf
      obtain ⟨b47, e48, hf⟩ := hf
      refine g1635 h dX10_steals_129 k46 e48 ?_
      refine r_iload_n h 3 dX10_steals_132 rfl rfl ?_
      refine r_iload h 4 dX10_steals_133 rfl ?_
      refine r_aload_n h 0 dX10_steals_135 rfl rfl ?_
      refine r_iload_n h 2 dX10_steals_136 rfl rfl ?_
      refine r_iload_n h 3 dX10_steals_137 rfl rfl ?_
      refine r_iconst (v := 0) h dX10_steals_138 (by decide) ?_
      refine c2133 hl h dX10_steals_139 k46 hf (Nat.le_of_ble_eq_true rfl) (by decide) (by decide) (fun x50 M49 hf => ?_)
      refine r_iadd h dX10_steals_142 ?_
      obtain ⟨j51, hf⟩ := hf
      refine r_iastore h dX10_steals_143 j51 ?_
      refine r_goW (fun M52 eM52 => ?_)
      have hf := hf M52 eM52
      refine r_iinc (v := v3 + 1) (lv' := [(3, .int (v3 + 1)), (0, .ref v0), (1, .int v1), (2, .int v2), (4, .int v4)]) h 3 dX10_steals_144 rfl rfl (by decide) rfl ?_
      refine r_goto (tgt := 44) h dX10_steals_147 (by decide) ?_
      exact V.sub [1, 2, 3, 0] rfl hf)
    (by
      intro v0 v1 v2 v3 M hf
      show V l G X 0 0 M 152 [(0, .ref v0), (1, .int v1), (2, .int v2), (3, .int v3)] []
      refine r_iload_n h 3 dX10_steals_152 rfl rfl ?_
      refine r_aload_n h 0 dX10_steals_153 rfl rfl ?_
      obtain ⟨k53, hf⟩ := hf
      refine c1820 hl h dX10_steals_154 k53 hf (Nat.le_of_ble_eq_true rfl) (by decide) (by decide) (fun x55 M54 hf => ?_)
      refine r_icmp_ge (tgt := 178) h dX10_steals_157 (by decide) (fun c56 => ?_) (fun c56 => ?_)
      · have hf := ite_t c56 hf
        refine r_iinc (v := v2 + (-1)) (lv' := [(2, .int (v2 + (-1))), (0, .ref v0), (1, .int v1), (3, .int v3)]) h 2 dX10_steals_178 rfl rfl (by decide) rfl ?_
        refine r_goto (tgt := 34) h dX10_steals_181 (by decide) ?_
        exact V.sub [1, 2, 0] rfl hf
      · have hf := ite_f c56 hf
        refine r_aload_n h 0 dX10_steals_160 rfl rfl ?_
        obtain ⟨k57, hf⟩ := hf
        obtain ⟨b58, e59, hf⟩ := hf
        refine g1634 h dX10_steals_161 k57 e59 ?_
        refine r_iload_n h 3 dX10_steals_164 rfl rfl ?_
        refine r_aload_n h 0 dX10_steals_165 rfl rfl ?_
        obtain ⟨b60, e61, hf⟩ := hf
        refine g1635 h dX10_steals_166 k57 e61 ?_
        refine r_iload_n h 3 dX10_steals_169 rfl rfl ?_
        obtain ⟨j62, hf⟩ := hf
        refine r_iaload h dX10_steals_170 j62 ?_
        obtain ⟨j63, hf⟩ := hf
        refine r_iastore h dX10_steals_171 j63 ?_
        refine r_goW (fun M64 eM64 => ?_)
        have hf := hf M64 eM64
        refine r_iinc (v := v3 + 1) (lv' := [(3, .int (v3 + 1)), (0, .ref v0), (1, .int v1), (2, .int v2)]) h 3 dX10_steals_172 rfl rfl (by decide) rfl ?_
        refine r_goto (tgt := 152) h dX10_steals_175 (by decide) ?_
        exact V.sub [1, 2, 3, 0] rfl hf)
  refine r_aload_n h 0 dX10_steals_0 rfl rfl ?_
  obtain ⟨k1, hf⟩ := hf
  refine c2129 hl h dX10_steals_1 k1 hf (Nat.le_of_ble_eq_true rfl) (by decide) (by decide) (fun M2 hf => ?_)
  refine r_iconst (v := 0) h dX10_steals_4 (by decide) ?_
  refine r_istore_n (lv' := [(2, .int 0), (0, .ref a0), (1, .int a1)]) h dX10_steals_5 rfl (by decide) rfl ?_
  exact V.sub [1, 2, 0] rfl hf
theorem c2232 {l : Launch} {G : gG} {X : gX} {cc : ByteArray} {nL F L bc bs pc : Nat} {M : gM} {lv : List (Nat × Value)} {rest : List Value} {a0 : Nat} {a1 : Int32} {K : gM → Prop} (hl : l.stackTraces = false) (h : hX l G X cc nL "GlacierMailModel" F L) (d : decode cc pc = .ok (.invokevirtual 483, 3)) (hk : kd M a0 = some (.inl 10)) (hf : f_X10_steals a0 a1 M K) (hst : (rest.map fun v => v.category).sum ≤ 8) (hF : 10 ≤ F) (hL : 234 ≤ L) (kk : ∀ M1, K M1 → V l G X bc bs M1 (pc + 3) lv rest) : V l G X bc bs M pc lv (.int a1 :: .ref a0 :: rest) := r_callV (n := 1) (As := [.int a1]) h (m_X10_steals hl hf) 10 rfl hk rfl ⟨by decide, by decide, by decide +kernel⟩ d q2232 q2234 qs133 q147 q2235 rfl rfl hst hF hL (Nat.zero_le _) (Nat.zero_le _) (kV_go kk) kN_go
def f_X10_thieves (a0 : Nat) (a1 : Int32) (a2 : Int32) (M : gM) (K : Int32 → gM → Prop) : Prop :=
  ∀ P21 : Nat → Int32 → Int32 → Int32 → Nat → gM → Prop,
  ∀ P40 : Nat → Int32 → Int32 → Int32 → gM → Prop,
  (∀ (v0 : Nat) (v1 : Int32) (v2 : Int32) (s0 : Int32) (s1 : Nat) (M : gM), (kd M s1 = some (.inl 10) ∧ f_X10_throwsIf s1 s0 1 M (fun x8 M7 => if x8 = 0 then kd M7 v0 = some (.inl 10) ∧ f_X10_steals v0 v1 M7 (fun M11 => P40 v0 v2 0 1 M11) else K 0 M7)) → P21 v0 v1 v2 s0 s1 M) →
  (∀ (v0 : Nat) (v2 : Int32) (v3 : Int32) (v4 : Int32) (M : gM), (kd M v0 = some (.inl 10) ∧ f_X10_lanes v0 M (fun x14 M13 => if x14 ≤ v4 then if v2 = 0 then kd M13 v0 = some (.inl 10) ∧ ∃ b18, rv M13 v0 37 = some b18 ∧ inA M13 b18 0 v3 ∧ K (iv M13 b18 (ix v3)) M13 else K v3 M13 else kd M13 v0 = some (.inl 10) ∧ ∃ b22, rv M13 v0 37 = some b22 ∧ inA M13 b22 0 v4 ∧ ∃ b25, rv M13 v0 37 = some b25 ∧ inA M13 b25 0 v3 ∧ if (iv M13 b22 (ix v4)) ≤ (iv M13 b25 (ix v3)) then P40 v0 v2 v3 (v4 + 1) M13 else P40 v0 v2 v4 (v4 + 1) M13)) → P40 v0 v2 v3 v4 M) →
  kd M a0 = some (.inl 10) ∧ ∀ M2, M2 = sI M a0 0 0 → f_X10_in a1 1 30 M2 (fun x4 M3 => if x4 = 0 then P21 a0 a1 a2 1 a0 M3 else P21 a0 a1 a2 0 a0 M3)
set_option maxHeartbeats 4000000 in
theorem m_X10_thieves {l : Launch} (hl : l.stackTraces = false) {G : gG} {a0 : Nat} {a1 : Int32} {a2 : Int32} {M : gM} {K : Int32 → gM → Prop} (hf : f_X10_thieves a0 a1 a2 M K) : gMet l G yX10_thieves (ws_ yX10_thieves cX10_thieves 5 (some Jvm.ClassFile.FieldType.int)) ({ frames := 10, cells := 0, slots := 0, locals := 234 }) M [.ref a0, .int a1, .int a2] (kI K) kN := by
  refine gm_of hl (ret := (some Jvm.ClassFile.FieldType.int)) rfl (Nat.le_of_ble_eq_true rfl) (fun X h hq => ?_)
  have h : hX l G X cX10_thieves 5 "GlacierMailModel" 10 234 := h
  have hf := hf
  show V l G X 0 0 M 0 [(0, .ref a0), (1, .int a1), (2, .int a2)] []
  have hf := hf
    (fun v0 v1 v2 s0 s1 M => V l G X 0 0 M 21 [(0, .ref v0), (1, .int v1), (2, .int v2)] [.int s0, .ref s1])
    (fun v0 v2 v3 v4 M => V l G X 0 0 M 40 [(0, .ref v0), (2, .int v2), (3, .int v3), (4, .int v4)] [])
    (by
      intro v0 v1 v2 s0 s1 M hf
      show V l G X 0 0 M 21 [(0, .ref v0), (1, .int v1), (2, .int v2)] [.int s0, .ref s1]
      refine r_iconst (v := 1) h dX10_thieves_21 (by decide) ?_
      obtain ⟨k6, hf⟩ := hf
      refine c1929 hl h dX10_thieves_22 k6 hf (Nat.le_of_ble_eq_true rfl) (by decide) (by decide) (fun x8 M7 hf => ?_)
      refine r_if_eq (tgt := 30) h dX10_thieves_25 (by decide) (fun c9 => ?_) (fun c9 => ?_)
      · have hf := ite_t c9 hf
        refine r_aload_n h 0 dX10_thieves_30 rfl rfl ?_
        refine r_iload_n h 1 dX10_thieves_31 rfl rfl ?_
        obtain ⟨k10, hf⟩ := hf
        refine c2232 hl h dX10_thieves_32 k10 hf (Nat.le_of_ble_eq_true rfl) (by decide) (by decide) (fun M11 hf => ?_)
        refine r_iconst (v := 0) h dX10_thieves_35 (by decide) ?_
        refine r_istore_n (lv' := [(3, .int 0), (0, .ref v0), (1, .int v1), (2, .int v2)]) h dX10_thieves_36 rfl (by decide) rfl ?_
        refine r_iconst (v := 1) h dX10_thieves_37 (by decide) ?_
        refine r_istore (lv' := [(4, .int 1), (3, .int 0), (0, .ref v0), (1, .int v1), (2, .int v2)]) h dX10_thieves_38 (by decide) rfl ?_
        exact V.sub [2, 4, 1, 0] rfl hf
      · have hf := ite_f c9 hf
        refine r_iconst (v := 0) h dX10_thieves_28 (by decide) ?_
        exact r_ireturn h hq dX10_thieves_29 ⟨_, rfl, hf⟩)
    (by
      intro v0 v2 v3 v4 M hf
      show V l G X 0 0 M 40 [(0, .ref v0), (2, .int v2), (3, .int v3), (4, .int v4)] []
      refine r_iload h 3 dX10_thieves_40 rfl ?_
      refine r_aload_n h 0 dX10_thieves_42 rfl rfl ?_
      obtain ⟨k12, hf⟩ := hf
      refine c1820 hl h dX10_thieves_43 k12 hf (Nat.le_of_ble_eq_true rfl) (by decide) (by decide) (fun x14 M13 hf => ?_)
      refine r_icmp_ge (tgt := 78) h dX10_thieves_46 (by decide) (fun c15 => ?_) (fun c15 => ?_)
      · have hf := ite_t c15 hf
        refine r_iload_n h 1 dX10_thieves_78 rfl rfl ?_
        refine r_if_eq (tgt := 86) h dX10_thieves_79 (by decide) (fun c16 => ?_) (fun c16 => ?_)
        · have hf := ite_t c16 hf
          refine r_aload_n h 0 dX10_thieves_86 rfl rfl ?_
          obtain ⟨k17, hf⟩ := hf
          obtain ⟨b18, e19, hf⟩ := hf
          refine g1634 h dX10_thieves_87 k17 e19 ?_
          refine r_iload_n h 2 dX10_thieves_90 rfl rfl ?_
          obtain ⟨j20, hf⟩ := hf
          refine r_iaload h dX10_thieves_91 j20 ?_
          exact r_ireturn h hq dX10_thieves_92 ⟨_, rfl, hf⟩
        · have hf := ite_f c16 hf
          refine r_iload_n h 2 dX10_thieves_82 rfl rfl ?_
          refine r_goto (tgt := 92) h dX10_thieves_83 (by decide) ?_
          exact r_ireturn h hq dX10_thieves_92 ⟨_, rfl, hf⟩
      · have hf := ite_f c15 hf
        refine r_aload_n h 0 dX10_thieves_49 rfl rfl ?_
        obtain ⟨k21, hf⟩ := hf
        obtain ⟨b22, e23, hf⟩ := hf
        refine g1634 h dX10_thieves_50 k21 e23 ?_
        refine r_iload h 3 dX10_thieves_53 rfl ?_
        obtain ⟨j24, hf⟩ := hf
        refine r_iaload h dX10_thieves_55 j24 ?_
        refine r_aload_n h 0 dX10_thieves_56 rfl rfl ?_
        obtain ⟨b25, e26, hf⟩ := hf
        refine g1634 h dX10_thieves_57 k21 e26 ?_
        refine r_iload_n h 2 dX10_thieves_60 rfl rfl ?_
        obtain ⟨j27, hf⟩ := hf
        refine r_iaload h dX10_thieves_61 j27 ?_
        refine r_icmp_le (tgt := 70) h dX10_thieves_62 (by decide) (fun c28 => ?_) (fun c28 => ?_)
        · have hf := ite_t c28 hf
          refine r_iload_n h 2 dX10_thieves_70 rfl rfl ?_
          refine r_istore_n (lv' := [(3, .int v3), (0, .ref v0), (2, .int v2), (4, .int v4)]) h dX10_thieves_71 rfl (by decide) rfl ?_
          refine r_iinc (v := v4 + 1) (lv' := [(4, .int (v4 + 1)), (3, .int v3), (0, .ref v0), (2, .int v2)]) h 3 dX10_thieves_72 rfl rfl (by decide) rfl ?_
          refine r_goto (tgt := 40) h dX10_thieves_75 (by decide) ?_
          exact V.sub [2, 3, 1, 0] rfl hf
        · have hf := ite_f c28 hf
          refine r_iload h 3 dX10_thieves_65 rfl ?_
          refine r_goto (tgt := 71) h dX10_thieves_67 (by decide) ?_
          refine r_istore_n (lv' := [(3, .int v4), (0, .ref v0), (2, .int v2), (4, .int v4)]) h dX10_thieves_71 rfl (by decide) rfl ?_
          refine r_iinc (v := v4 + 1) (lv' := [(4, .int (v4 + 1)), (3, .int v4), (0, .ref v0), (2, .int v2)]) h 3 dX10_thieves_72 rfl rfl (by decide) rfl ?_
          refine r_goto (tgt := 40) h dX10_thieves_75 (by decide) ?_
          exact V.sub [2, 3, 1, 0] rfl hf)
  refine r_aload_n h 0 dX10_thieves_0 rfl rfl ?_
  refine r_iconst (v := 0) h dX10_thieves_1 (by decide) ?_
  obtain ⟨k1, hf⟩ := hf
  refine p1597 h dX10_thieves_2 k1 ?_
  refine r_goW (fun M2 eM2 => ?_)
  have hf := hf M2 eM2
  refine r_aload_n h 0 dX10_thieves_5 rfl rfl ?_
  refine r_iload_n h 1 dX10_thieves_6 rfl rfl ?_
  refine r_iconst (v := 1) h dX10_thieves_7 (by decide) ?_
  refine r_bipush (v := 30) h dX10_thieves_8 (by decide) ?_
  refine c1944 hl h dX10_thieves_10 hf (Nat.le_of_ble_eq_true rfl) (by decide) (by decide) (fun x4 M3 hf => ?_)
  refine r_if_ne (tgt := 20) h dX10_thieves_13 (by decide) (fun c5 => ?_) (fun c5 => ?_)
  · have hf := ite_f c5 hf
    refine r_iconst (v := 0) h dX10_thieves_20 (by decide) ?_
    exact V.sub [0, 1, 2] rfl hf
  · have hf := ite_t c5 hf
    refine r_iconst (v := 1) h dX10_thieves_16 (by decide) ?_
    refine r_goto (tgt := 21) h dX10_thieves_17 (by decide) ?_
    exact V.sub [0, 1, 2] rfl hf
theorem c2228 {l : Launch} {G : gG} {X : gX} {cc : ByteArray} {nL F L bc bs pc : Nat} {M : gM} {lv : List (Nat × Value)} {rest : List Value} {a0 : Nat} {a1 : Int32} {a2 : Int32} {K : Int32 → gM → Prop} (hl : l.stackTraces = false) (h : hX l G X cc nL "GlacierMailLaw" F L) (d : decode cc pc = .ok (.invokevirtual 261, 3)) (hk : kd M a0 = some (.inl 10)) (hf : f_X10_thieves a0 a1 a2 M K) (hst : (rest.map fun v => v.category).sum ≤ 8) (hF : 11 ≤ F) (hL : 258 ≤ L) (kk : ∀ x M1, K x M1 → V l G X bc bs M1 (pc + 3) lv (.int x :: rest)) : V l G X bc bs M pc lv (.int a2 :: .int a1 :: .ref a0 :: rest) := r_callV (n := 2) (As := [.int a1, .int a2]) h (m_X10_thieves hl hf) 10 rfl hk rfl ⟨by decide, by decide, by decide +kernel⟩ d q2228 q2229 q2230 q147 q2231 rfl rfl hst hF hL (Nat.zero_le _) (Nat.zero_le _) (kI_go kk) kN_go
def f_X10_watchman (a0 : Nat) (a1 : Int32) (a2 : Int32) (M : gM) (K : Int32 → gM → Prop) : Prop :=
  ∀ P21 : Nat → Int32 → Int32 → Int32 → Nat → gM → Prop,
  ∀ P36 : Nat → Int32 → Int32 → Int32 → gM → Prop,
  ∀ P57 : Nat → Int32 → Int32 → Int32 → Int32 → gM → Prop,
  ∀ P105 : Nat → Int32 → Int32 → Int32 → Int32 → gM → Prop,
  ∀ P120 : Nat → Int32 → Int32 → Int32 → Int32 → Int32 → Int32 → gM → Prop,
  (∀ (v0 : Nat) (v1 : Int32) (v2 : Int32) (s0 : Int32) (s1 : Nat) (M : gM), (kd M s1 = some (.inl 10) ∧ f_X10_throwsIf s1 s0 1 M (fun x8 M7 => if x8 = 0 then kd M7 v0 = some (.inl 10) ∧ f_X10_outsAll v0 M7 (fun M11 => P36 v0 v1 v2 0 M11) else K 0 M7)) → P21 v0 v1 v2 s0 s1 M) →
  (∀ (v0 : Nat) (v1 : Int32) (v2 : Int32) (v3 : Int32) (M : gM), (kd M v0 = some (.inl 10) ∧ f_X10_lanes v0 M (fun x14 M13 => if x14 ≤ v3 then P105 v0 v2 (-1) 0 0 M13 else kd M13 v0 = some (.inl 10) ∧ ∃ b17, rv M13 v0 37 = some b17 ∧ inA M13 b17 0 v3 ∧ ∀ M20, M20 = sI M13 b17 (ix v3) 0 → kd M20 v0 = some (.inl 10) ∧ f_X10_now v0 M20 (fun x23 M22 => P57 v0 v1 v2 v3 x23 M22))) → P36 v0 v1 v2 v3 M) →
  (∀ (v0 : Nat) (v1 : Int32) (v2 : Int32) (v3 : Int32) (v4 : Int32) (M : gM), (kd M v0 = some (.inl 10) ∧ f_X10_now v0 M (fun x26 M25 => if (x26 + v1) ≤ v4 then P36 v0 v1 v2 (v3 + 1) M25 else kd M25 v0 = some (.inl 10) ∧ ∃ b29, rv M25 v0 37 = some b29 ∧ inA M25 b29 0 v3 ∧ f_X10_outsIn v0 v4 v3 0 M25 (fun x33 M32 => inA M32 b29 0 v3 ∧ ∀ M35, M35 = sI M32 b29 (ix v3) ((iv M25 b29 (ix v3)) + x33) → P57 v0 v1 v2 v3 (v4 + 1) M35))) → P57 v0 v1 v2 v3 v4 M) →
  (∀ (v0 : Nat) (v2 : Int32) (v3 : Int32) (v4 : Int32) (v5 : Int32) (M : gM), (kd M v0 = some (.inl 10) ∧ f_X10_lanes v0 M (fun x38 M37 => if x38 ≤ v5 then if v2 = 0 then K v3 M37 else K v4 M37 else P120 v0 v2 v3 v4 v5 0 0 M37)) → P105 v0 v2 v3 v4 v5 M) →
  (∀ (v0 : Nat) (v2 : Int32) (v3 : Int32) (v4 : Int32) (v5 : Int32) (v6 : Int32) (v7 : Int32) (M : gM), (kd M v0 = some (.inl 10) ∧ f_X10_lanes v0 M (fun x43 M42 => if x43 ≤ v7 then if v3 < 0 then P105 v0 v2 v5 v6 (v5 + 1) M42 else if v6 < v4 then P105 v0 v2 v5 v6 (v5 + 1) M42 else P105 v0 v2 v3 v4 (v5 + 1) M42 else if v7 = v5 then P120 v0 v2 v3 v4 v5 v6 (v7 + 1) M42 else kd M42 v0 = some (.inl 10) ∧ ∃ b49, rv M42 v0 37 = some b49 ∧ inA M42 b49 0 v7 ∧ ∀ x52, x52 = (if v6 < (iv M42 b49 (ix v7)) then (iv M42 b49 (ix v7)) else v6) → P120 v0 v2 v3 v4 v5 x52 (v7 + 1) M42)) → P120 v0 v2 v3 v4 v5 v6 v7 M) →
  kd M a0 = some (.inl 10) ∧ ∀ M2, M2 = sI M a0 0 0 → f_X10_in a1 1 30 M2 (fun x4 M3 => if x4 = 0 then P21 a0 a1 a2 1 a0 M3 else P21 a0 a1 a2 0 a0 M3)
set_option maxHeartbeats 4000000 in
theorem m_X10_watchman {l : Launch} (hl : l.stackTraces = false) {G : gG} {a0 : Nat} {a1 : Int32} {a2 : Int32} {M : gM} {K : Int32 → gM → Prop} (hf : f_X10_watchman a0 a1 a2 M K) : gMet l G yX10_watchman (ws_ yX10_watchman cX10_watchman 8 (some Jvm.ClassFile.FieldType.int)) ({ frames := 9, cells := 0, slots := 0, locals := 210 }) M [.ref a0, .int a1, .int a2] (kI K) kN := by
  refine gm_of hl (ret := (some Jvm.ClassFile.FieldType.int)) rfl (Nat.le_of_ble_eq_true rfl) (fun X h hq => ?_)
  have h : hX l G X cX10_watchman 8 "GlacierMailModel" 9 210 := h
  have hf := hf
  show V l G X 0 0 M 0 [(0, .ref a0), (1, .int a1), (2, .int a2)] []
  have hf := hf
    (fun v0 v1 v2 s0 s1 M => V l G X 0 0 M 21 [(0, .ref v0), (1, .int v1), (2, .int v2)] [.int s0, .ref s1])
    (fun v0 v1 v2 v3 M => V l G X 0 0 M 36 [(0, .ref v0), (1, .int v1), (2, .int v2), (3, .int v3)] [])
    (fun v0 v1 v2 v3 v4 M => V l G X 0 0 M 57 [(0, .ref v0), (1, .int v1), (2, .int v2), (3, .int v3), (4, .int v4)] [])
    (fun v0 v2 v3 v4 v5 M => V l G X 0 0 M 105 [(0, .ref v0), (2, .int v2), (3, .int v3), (4, .int v4), (5, .int v5)] [])
    (fun v0 v2 v3 v4 v5 v6 v7 M => V l G X 0 0 M 120 [(0, .ref v0), (2, .int v2), (3, .int v3), (4, .int v4), (5, .int v5), (6, .int v6), (7, .int v7)] [])
    (by
      intro v0 v1 v2 s0 s1 M hf
      show V l G X 0 0 M 21 [(0, .ref v0), (1, .int v1), (2, .int v2)] [.int s0, .ref s1]
      refine r_iconst (v := 1) h dX10_watchman_21 (by decide) ?_
      obtain ⟨k6, hf⟩ := hf
      refine c1929 hl h dX10_watchman_22 k6 hf (Nat.le_of_ble_eq_true rfl) (by decide) (by decide) (fun x8 M7 hf => ?_)
      refine r_if_eq (tgt := 30) h dX10_watchman_25 (by decide) (fun c9 => ?_) (fun c9 => ?_)
      · have hf := ite_t c9 hf
        refine r_aload_n h 0 dX10_watchman_30 rfl rfl ?_
        obtain ⟨k10, hf⟩ := hf
        refine c2129 hl h dX10_watchman_31 k10 hf (Nat.le_of_ble_eq_true rfl) (by decide) (by decide) (fun M11 hf => ?_)
        refine r_iconst (v := 0) h dX10_watchman_34 (by decide) ?_
        refine r_istore_n (lv' := [(3, .int 0), (0, .ref v0), (1, .int v1), (2, .int v2)]) h dX10_watchman_35 rfl (by decide) rfl ?_
        exact V.sub [1, 2, 3, 0] rfl hf
      · have hf := ite_f c9 hf
        refine r_iconst (v := 0) h dX10_watchman_28 (by decide) ?_
        exact r_ireturn h hq dX10_watchman_29 ⟨_, rfl, hf⟩)
    (by
      intro v0 v1 v2 v3 M hf
      show V l G X 0 0 M 36 [(0, .ref v0), (1, .int v1), (2, .int v2), (3, .int v3)] []
      refine r_iload_n h 3 dX10_watchman_36 rfl rfl ?_
      refine r_aload_n h 0 dX10_watchman_37 rfl rfl ?_
      obtain ⟨k12, hf⟩ := hf
      refine c1820 hl h dX10_watchman_38 k12 hf (Nat.le_of_ble_eq_true rfl) (by decide) (by decide) (fun x14 M13 hf => ?_)
      refine r_icmp_ge (tgt := 97) h dX10_watchman_41 (by decide) (fun c15 => ?_) (fun c15 => ?_)
      · have hf := ite_t c15 hf
        refine r_iconst (v := (-1)) h dX10_watchman_97 (by decide) ?_
        refine r_istore_n (lv' := [(3, .int (-1)), (0, .ref v0), (1, .int v1), (2, .int v2)]) h dX10_watchman_98 rfl (by decide) rfl ?_
        refine r_iconst (v := 0) h dX10_watchman_99 (by decide) ?_
        refine r_istore (lv' := [(4, .int 0), (3, .int (-1)), (0, .ref v0), (1, .int v1), (2, .int v2)]) h dX10_watchman_100 (by decide) rfl ?_
        refine r_iconst (v := 0) h dX10_watchman_102 (by decide) ?_
        refine r_istore (lv' := [(5, .int 0), (4, .int 0), (3, .int (-1)), (0, .ref v0), (1, .int v1), (2, .int v2)]) h dX10_watchman_103 (by decide) rfl ?_
        exact V.sub [3, 5, 2, 1, 0] rfl hf
      · have hf := ite_f c15 hf
        refine r_aload_n h 0 dX10_watchman_44 rfl rfl ?_
        obtain ⟨k16, hf⟩ := hf
        obtain ⟨b17, e18, hf⟩ := hf
        refine g1634 h dX10_watchman_45 k16 e18 ?_
        refine r_iload_n h 3 dX10_watchman_48 rfl rfl ?_
        refine r_iconst (v := 0) h dX10_watchman_49 (by decide) ?_
        obtain ⟨j19, hf⟩ := hf
        refine r_iastore h dX10_watchman_50 j19 ?_
        refine r_goW (fun M20 eM20 => ?_)
        have hf := hf M20 eM20
        refine r_aload_n h 0 dX10_watchman_51 rfl rfl ?_
        obtain ⟨k21, hf⟩ := hf
        refine c1843 hl h dX10_watchman_52 k21 hf (Nat.le_of_ble_eq_true rfl) (by decide) (by decide) (fun x23 M22 hf => ?_)
        refine r_istore (lv' := [(4, .int x23), (0, .ref v0), (1, .int v1), (2, .int v2), (3, .int v3)]) h dX10_watchman_55 (by decide) rfl ?_
        exact V.sub [1, 2, 3, 4, 0] rfl hf)
    (by
      intro v0 v1 v2 v3 v4 M hf
      show V l G X 0 0 M 57 [(0, .ref v0), (1, .int v1), (2, .int v2), (3, .int v3), (4, .int v4)] []
      refine r_iload h 4 dX10_watchman_57 rfl ?_
      refine r_aload_n h 0 dX10_watchman_59 rfl rfl ?_
      obtain ⟨k24, hf⟩ := hf
      refine c1843 hl h dX10_watchman_60 k24 hf (Nat.le_of_ble_eq_true rfl) (by decide) (by decide) (fun x26 M25 hf => ?_)
      refine r_iload_n h 1 dX10_watchman_63 rfl rfl ?_
      refine r_iadd h dX10_watchman_64 ?_
      refine r_icmp_ge (tgt := 91) h dX10_watchman_65 (by decide) (fun c27 => ?_) (fun c27 => ?_)
      · have hf := ite_t c27 hf
        refine r_iinc (v := v3 + 1) (lv' := [(3, .int (v3 + 1)), (0, .ref v0), (1, .int v1), (2, .int v2), (4, .int v4)]) h 3 dX10_watchman_91 rfl rfl (by decide) rfl ?_
        refine r_goto (tgt := 36) h dX10_watchman_94 (by decide) ?_
        exact V.sub [1, 2, 3, 0] rfl hf
      · have hf := ite_f c27 hf
        refine r_aload_n h 0 dX10_watchman_68 rfl rfl ?_
        obtain ⟨k28, hf⟩ := hf
        obtain ⟨b29, e30, hf⟩ := hf
        refine g1634 h dX10_watchman_69 k28 e30 ?_
        refine r_iload_n h 3 dX10_watchman_72 rfl rfl ?_
        refine r_dup2 h dX10_watchman_73 rfl rfl ?_
        obtain ⟨j31, hf⟩ := hf
        refine r_iaload h dX10_watchman_74 j31 ?_
        refine r_aload_n h 0 dX10_watchman_75 rfl rfl ?_
        refine r_iload h 4 dX10_watchman_76 rfl ?_
        refine r_iload_n h 3 dX10_watchman_78 rfl rfl ?_
        refine r_iconst (v := 0) h dX10_watchman_79 (by decide) ?_
        refine c2133 hl h dX10_watchman_80 k28 hf (Nat.le_of_ble_eq_true rfl) (by decide) (by decide) (fun x33 M32 hf => ?_)
        refine r_iadd h dX10_watchman_83 ?_
        obtain ⟨j34, hf⟩ := hf
        refine r_iastore h dX10_watchman_84 j34 ?_
        refine r_goW (fun M35 eM35 => ?_)
        have hf := hf M35 eM35
        refine r_iinc (v := v4 + 1) (lv' := [(4, .int (v4 + 1)), (0, .ref v0), (1, .int v1), (2, .int v2), (3, .int v3)]) h 4 dX10_watchman_85 rfl rfl (by decide) rfl ?_
        refine r_goto (tgt := 57) h dX10_watchman_88 (by decide) ?_
        exact V.sub [1, 2, 3, 4, 0] rfl hf)
    (by
      intro v0 v2 v3 v4 v5 M hf
      show V l G X 0 0 M 105 [(0, .ref v0), (2, .int v2), (3, .int v3), (4, .int v4), (5, .int v5)] []
      refine r_iload h 4 dX10_watchman_105 rfl ?_
      refine r_aload_n h 0 dX10_watchman_107 rfl rfl ?_
      obtain ⟨k36, hf⟩ := hf
      refine c1820 hl h dX10_watchman_108 k36 hf (Nat.le_of_ble_eq_true rfl) (by decide) (by decide) (fun x38 M37 hf => ?_)
      refine r_icmp_ge (tgt := 188) h dX10_watchman_111 (by decide) (fun c39 => ?_) (fun c39 => ?_)
      · have hf := ite_t c39 hf
        refine r_iload_n h 1 dX10_watchman_188 rfl rfl ?_
        refine r_if_eq (tgt := 197) h dX10_watchman_189 (by decide) (fun c40 => ?_) (fun c40 => ?_)
        · have hf := ite_t c40 hf
          refine r_iload_n h 2 dX10_watchman_197 rfl rfl ?_
          exact r_ireturn h hq dX10_watchman_198 ⟨_, rfl, hf⟩
        · have hf := ite_f c40 hf
          refine r_iload h 3 dX10_watchman_192 rfl ?_
          refine r_goto (tgt := 198) h dX10_watchman_194 (by decide) ?_
          exact r_ireturn h hq dX10_watchman_198 ⟨_, rfl, hf⟩
      · have hf := ite_f c39 hf
        refine r_iconst (v := 0) h dX10_watchman_114 (by decide) ?_
        refine r_istore (lv' := [(6, .int 0), (0, .ref v0), (2, .int v2), (3, .int v3), (4, .int v4), (5, .int v5)]) h dX10_watchman_115 (by decide) rfl ?_
        refine r_iconst (v := 0) h dX10_watchman_117 (by decide) ?_
        refine r_istore (lv' := [(7, .int 0), (6, .int 0), (0, .ref v0), (2, .int v2), (3, .int v3), (4, .int v4), (5, .int v5)]) h dX10_watchman_118 (by decide) rfl ?_
        exact V.sub [2, 3, 4, 5, 6, 1, 0] rfl hf)
    (by
      intro v0 v2 v3 v4 v5 v6 v7 M hf
      show V l G X 0 0 M 120 [(0, .ref v0), (2, .int v2), (3, .int v3), (4, .int v4), (5, .int v5), (6, .int v6), (7, .int v7)] []
      refine r_iload h 6 dX10_watchman_120 rfl ?_
      refine r_aload_n h 0 dX10_watchman_122 rfl rfl ?_
      obtain ⟨k41, hf⟩ := hf
      refine c1820 hl h dX10_watchman_123 k41 hf (Nat.le_of_ble_eq_true rfl) (by decide) (by decide) (fun x43 M42 hf => ?_)
      refine r_icmp_ge (tgt := 161) h dX10_watchman_126 (by decide) (fun c44 => ?_) (fun c44 => ?_)
      · have hf := ite_t c44 hf
        refine r_iload_n h 2 dX10_watchman_161 rfl rfl ?_
        refine r_if_lt (tgt := 175) h dX10_watchman_162 (by decide) (fun c45 => ?_) (fun c45 => ?_)
        · have hf := ite_t c45 hf
          refine r_iload h 4 dX10_watchman_175 rfl ?_
          refine r_istore_n (lv' := [(3, .int v5), (0, .ref v0), (2, .int v2), (4, .int v4), (5, .int v5), (6, .int v6), (7, .int v7)]) h dX10_watchman_177 rfl (by decide) rfl ?_
          refine r_iload h 5 dX10_watchman_178 rfl ?_
          refine r_istore (lv' := [(4, .int v6), (3, .int v5), (0, .ref v0), (2, .int v2), (5, .int v5), (6, .int v6), (7, .int v7)]) h dX10_watchman_180 (by decide) rfl ?_
          refine r_iinc (v := v5 + 1) (lv' := [(5, .int (v5 + 1)), (4, .int v6), (3, .int v5), (0, .ref v0), (2, .int v2), (6, .int v6), (7, .int v7)]) h 4 dX10_watchman_182 rfl rfl (by decide) rfl ?_
          refine r_goto (tgt := 105) h dX10_watchman_185 (by decide) ?_
          exact V.sub [3, 4, 2, 1, 0] rfl hf
        · have hf := ite_f c45 hf
          refine r_iload h 5 dX10_watchman_165 rfl ?_
          refine r_iload h 3 dX10_watchman_167 rfl ?_
          refine r_icmp_lt (tgt := 175) h dX10_watchman_169 (by decide) (fun c46 => ?_) (fun c46 => ?_)
          · have hf := ite_t c46 hf
            refine r_iload h 4 dX10_watchman_175 rfl ?_
            refine r_istore_n (lv' := [(3, .int v5), (0, .ref v0), (2, .int v2), (4, .int v4), (5, .int v5), (6, .int v6), (7, .int v7)]) h dX10_watchman_177 rfl (by decide) rfl ?_
            refine r_iload h 5 dX10_watchman_178 rfl ?_
            refine r_istore (lv' := [(4, .int v6), (3, .int v5), (0, .ref v0), (2, .int v2), (5, .int v5), (6, .int v6), (7, .int v7)]) h dX10_watchman_180 (by decide) rfl ?_
            refine r_iinc (v := v5 + 1) (lv' := [(5, .int (v5 + 1)), (4, .int v6), (3, .int v5), (0, .ref v0), (2, .int v2), (6, .int v6), (7, .int v7)]) h 4 dX10_watchman_182 rfl rfl (by decide) rfl ?_
            refine r_goto (tgt := 105) h dX10_watchman_185 (by decide) ?_
            exact V.sub [3, 4, 2, 1, 0] rfl hf
          · have hf := ite_f c46 hf
            refine r_goto (tgt := 182) h dX10_watchman_172 (by decide) ?_
            refine r_iinc (v := v5 + 1) (lv' := [(5, .int (v5 + 1)), (0, .ref v0), (2, .int v2), (3, .int v3), (4, .int v4), (6, .int v6), (7, .int v7)]) h 4 dX10_watchman_182 rfl rfl (by decide) rfl ?_
            refine r_goto (tgt := 105) h dX10_watchman_185 (by decide) ?_
            exact V.sub [1, 2, 3, 4, 0] rfl hf
      · have hf := ite_f c44 hf
        refine r_iload h 6 dX10_watchman_129 rfl ?_
        refine r_iload h 4 dX10_watchman_131 rfl ?_
        refine r_icmp_ne (tgt := 141) h dX10_watchman_133 (by decide) (fun c47 => ?_) (fun c47 => ?_)
        · have hf := ite_f c47 hf
          refine r_iload h 5 dX10_watchman_141 rfl ?_
          refine r_aload_n h 0 dX10_watchman_143 rfl rfl ?_
          obtain ⟨k48, hf⟩ := hf
          obtain ⟨b49, e50, hf⟩ := hf
          refine g1634 h dX10_watchman_144 k48 e50 ?_
          refine r_iload h 6 dX10_watchman_147 rfl ?_
          obtain ⟨j51, hf⟩ := hf
          refine r_iaload h dX10_watchman_149 j51 ?_
          refine r_mmax h q1988 q732 q165 q733 dX10_watchman_150 (by decide) (by decide) (Nat.le_of_ble_eq_true rfl) ?_
          refine r_nam (fun x52 ex52 => ?_)
          have hf := hf x52 ex52
          refine r_istore (lv' := [(6, .int x52), (0, .ref v0), (2, .int v2), (3, .int v3), (4, .int v4), (5, .int v5), (7, .int v7)]) h dX10_watchman_153 (by decide) rfl ?_
          refine r_iinc (v := v7 + 1) (lv' := [(7, .int (v7 + 1)), (6, .int x52), (0, .ref v0), (2, .int v2), (3, .int v3), (4, .int v4), (5, .int v5)]) h 6 dX10_watchman_155 rfl rfl (by decide) rfl ?_
          refine r_goto (tgt := 120) h dX10_watchman_158 (by decide) ?_
          exact V.sub [2, 3, 4, 5, 6, 1, 0] rfl hf
        · have hf := ite_t c47 hf
          refine r_iload h 5 dX10_watchman_136 rfl ?_
          refine r_goto (tgt := 153) h dX10_watchman_138 (by decide) ?_
          refine r_istore (lv' := [(6, .int v6), (0, .ref v0), (2, .int v2), (3, .int v3), (4, .int v4), (5, .int v5), (7, .int v7)]) h dX10_watchman_153 (by decide) rfl ?_
          refine r_iinc (v := v7 + 1) (lv' := [(7, .int (v7 + 1)), (6, .int v6), (0, .ref v0), (2, .int v2), (3, .int v3), (4, .int v4), (5, .int v5)]) h 6 dX10_watchman_155 rfl rfl (by decide) rfl ?_
          refine r_goto (tgt := 120) h dX10_watchman_158 (by decide) ?_
          exact V.sub [2, 3, 4, 5, 6, 1, 0] rfl hf)
  refine r_aload_n h 0 dX10_watchman_0 rfl rfl ?_
  refine r_iconst (v := 0) h dX10_watchman_1 (by decide) ?_
  obtain ⟨k1, hf⟩ := hf
  refine p1597 h dX10_watchman_2 k1 ?_
  refine r_goW (fun M2 eM2 => ?_)
  have hf := hf M2 eM2
  refine r_aload_n h 0 dX10_watchman_5 rfl rfl ?_
  refine r_iload_n h 1 dX10_watchman_6 rfl rfl ?_
  refine r_iconst (v := 1) h dX10_watchman_7 (by decide) ?_
  refine r_bipush (v := 30) h dX10_watchman_8 (by decide) ?_
  refine c1944 hl h dX10_watchman_10 hf (Nat.le_of_ble_eq_true rfl) (by decide) (by decide) (fun x4 M3 hf => ?_)
  refine r_if_ne (tgt := 20) h dX10_watchman_13 (by decide) (fun c5 => ?_) (fun c5 => ?_)
  · have hf := ite_f c5 hf
    refine r_iconst (v := 0) h dX10_watchman_20 (by decide) ?_
    exact V.sub [0, 1, 2] rfl hf
  · have hf := ite_t c5 hf
    refine r_iconst (v := 1) h dX10_watchman_16 (by decide) ?_
    refine r_goto (tgt := 21) h dX10_watchman_17 (by decide) ?_
    exact V.sub [0, 1, 2] rfl hf
theorem c2236 {l : Launch} {G : gG} {X : gX} {cc : ByteArray} {nL F L bc bs pc : Nat} {M : gM} {lv : List (Nat × Value)} {rest : List Value} {a0 : Nat} {a1 : Int32} {a2 : Int32} {K : Int32 → gM → Prop} (hl : l.stackTraces = false) (h : hX l G X cc nL "GlacierMailLaw" F L) (d : decode cc pc = .ok (.invokevirtual 264, 3)) (hk : kd M a0 = some (.inl 10)) (hf : f_X10_watchman a0 a1 a2 M K) (hst : (rest.map fun v => v.category).sum ≤ 8) (hF : 10 ≤ F) (hL : 237 ≤ L) (kk : ∀ x M1, K x M1 → V l G X bc bs M1 (pc + 3) lv (.int x :: rest)) : V l G X bc bs M pc lv (.int a2 :: .int a1 :: .ref a0 :: rest) := r_callV (n := 2) (As := [.int a1, .int a2]) h (m_X10_watchman hl hf) 10 rfl hk rfl ⟨by decide, by decide, by decide +kernel⟩ d q2236 q2237 q2238 q147 q2239 rfl rfl hst hF hL (Nat.zero_le _) (Nat.zero_le _) (kI_go kk) kN_go
def f_X10_meeting (a0 : Nat) (a1 : Int32) (a2 : Int32) (M : gM) (K : Int32 → gM → Prop) : Prop :=
  ∀ P27 : Nat → Int32 → Int32 → Int32 → Nat → gM → Prop,
  ∀ P45 : Nat → Int32 → Int32 → Int32 → Nat → gM → Prop,
  ∀ P92 : Nat → Int32 → gM → Prop,
  (∀ (v0 : Nat) (v1 : Int32) (v2 : Int32) (s0 : Int32) (s1 : Nat) (M : gM), (kd M s1 = some (.inl 10) ∧ f_X10_throwsIf s1 s0 1 M (fun x13 M12 => if x13 = 0 then if v1 = v2 then P45 v0 v1 v2 1 v0 M12 else P45 v0 v1 v2 0 v0 M12 else K 0 M12)) → P27 v0 v1 v2 s0 s1 M) →
  (∀ (v0 : Nat) (v1 : Int32) (v2 : Int32) (s0 : Int32) (s1 : Nat) (M : gM), (kd M s1 = some (.inl 10) ∧ f_X10_throwsIf s1 s0 2 M (fun x18 M17 => if x18 = 0 then kd M17 v0 = some (.inl 10) ∧ f_X10_ofLetter v0 v1 2 M17 (fun x22 M21 => kd M21 v0 = some (.inl 10) ∧ f_X10_ofLetter v0 v2 2 M21 (fun x25 M24 => if x22 = x25 then kd M24 v0 = some (.inl 10) ∧ f_X10_runsLetter v0 v1 (-1) M24 (fun M28 => kd M28 v0 = some (.inl 10) ∧ f_X10_keepsRows v0 M28 (fun M30 => kd M30 v0 = some (.inl 10) ∧ f_X10_runsLetter v0 v2 (-1) M30 (fun M32 => kd M32 v0 = some (.inl 10) ∧ f_X10_now v0 M32 (fun x35 M34 => P92 v0 x35 M34)))) else K (-1) M24)) else K 0 M17)) → P45 v0 v1 v2 s0 s1 M) →
  (∀ (v0 : Nat) (v3 : Int32) (M : gM), (if 300 ≤ v3 then K (-1) M else kd M v0 = some (.inl 10) ∧ f_X10_isInIce v0 v3 M (fun x39 M38 => if x39 = 0 then P92 v0 (v3 + 1) M38 else kd M38 v0 = some (.inl 10) ∧ f_X10_isOtherInIce v0 v3 M38 (fun x43 M42 => if x43 = 0 then P92 v0 (v3 + 1) M42 else kd M42 v0 = some (.inl 10) ∧ ∃ b46, rv M42 v0 27 = some b46 ∧ inA M42 b46 0 v3 ∧ ∃ b49, rv M42 v0 32 = some b49 ∧ inA M42 b49 0 v3 ∧ if (iv M42 b46 (ix v3)) = (iv M42 b49 (ix v3)) then K v3 M42 else P92 v0 (v3 + 1) M42))) → P92 v0 v3 M) →
  kd M a0 = some (.inl 10) ∧ ∀ M2, M2 = sI M a0 0 0 → kd M2 a0 = some (.inl 10) ∧ f_X10_noLetter a0 a1 M2 (fun x5 M4 => if x5 = 0 then kd M4 a0 = some (.inl 10) ∧ f_X10_noLetter a0 a2 M4 (fun x9 M8 => if x9 = 0 then P27 a0 a1 a2 0 a0 M8 else P27 a0 a1 a2 1 a0 M8) else P27 a0 a1 a2 1 a0 M4)
set_option maxHeartbeats 4000000 in
theorem m_X10_meeting {l : Launch} (hl : l.stackTraces = false) {G : gG} {a0 : Nat} {a1 : Int32} {a2 : Int32} {M : gM} {K : Int32 → gM → Prop} (hf : f_X10_meeting a0 a1 a2 M K) : gMet l G yX10_meeting (ws_ yX10_meeting cX10_meeting 4 (some Jvm.ClassFile.FieldType.int)) ({ frames := 7, cells := 0, slots := 0, locals := 168 }) M [.ref a0, .int a1, .int a2] (kI K) kN := by
  refine gm_of hl (ret := (some Jvm.ClassFile.FieldType.int)) rfl (Nat.le_of_ble_eq_true rfl) (fun X h hq => ?_)
  have h : hX l G X cX10_meeting 4 "GlacierMailModel" 7 168 := h
  have hf := hf
  show V l G X 0 0 M 0 [(0, .ref a0), (1, .int a1), (2, .int a2)] []
  have hf := hf
    (fun v0 v1 v2 s0 s1 M => V l G X 0 0 M 27 [(0, .ref v0), (1, .int v1), (2, .int v2)] [.int s0, .ref s1])
    (fun v0 v1 v2 s0 s1 M => V l G X 0 0 M 45 [(0, .ref v0), (1, .int v1), (2, .int v2)] [.int s0, .ref s1])
    (fun v0 v3 M => V l G X 0 0 M 92 [(0, .ref v0), (3, .int v3)] [])
    (by
      intro v0 v1 v2 s0 s1 M hf
      show V l G X 0 0 M 27 [(0, .ref v0), (1, .int v1), (2, .int v2)] [.int s0, .ref s1]
      refine r_iconst (v := 1) h dX10_meeting_27 (by decide) ?_
      obtain ⟨k11, hf⟩ := hf
      refine c1929 hl h dX10_meeting_28 k11 hf (Nat.le_of_ble_eq_true rfl) (by decide) (by decide) (fun x13 M12 hf => ?_)
      refine r_if_ne (tgt := 52) h dX10_meeting_31 (by decide) (fun c14 => ?_) (fun c14 => ?_)
      · have hf := ite_f c14 hf
        refine r_iconst (v := 0) h dX10_meeting_52 (by decide) ?_
        exact r_ireturn h hq dX10_meeting_53 ⟨_, rfl, hf⟩
      · have hf := ite_t c14 hf
        refine r_aload_n h 0 dX10_meeting_34 rfl rfl ?_
        refine r_iload_n h 1 dX10_meeting_35 rfl rfl ?_
        refine r_iload_n h 2 dX10_meeting_36 rfl rfl ?_
        refine r_icmp_ne (tgt := 44) h dX10_meeting_37 (by decide) (fun c15 => ?_) (fun c15 => ?_)
        · have hf := ite_f c15 hf
          refine r_iconst (v := 0) h dX10_meeting_44 (by decide) ?_
          exact V.sub [0, 1, 2] rfl hf
        · have hf := ite_t c15 hf
          refine r_iconst (v := 1) h dX10_meeting_40 (by decide) ?_
          refine r_goto (tgt := 45) h dX10_meeting_41 (by decide) ?_
          exact V.sub [0, 1, 2] rfl hf)
    (by
      intro v0 v1 v2 s0 s1 M hf
      show V l G X 0 0 M 45 [(0, .ref v0), (1, .int v1), (2, .int v2)] [.int s0, .ref s1]
      refine r_iconst (v := 2) h dX10_meeting_45 (by decide) ?_
      obtain ⟨k16, hf⟩ := hf
      refine c1929 hl h dX10_meeting_46 k16 hf (Nat.le_of_ble_eq_true rfl) (by decide) (by decide) (fun x18 M17 hf => ?_)
      refine r_if_eq (tgt := 54) h dX10_meeting_49 (by decide) (fun c19 => ?_) (fun c19 => ?_)
      · have hf := ite_t c19 hf
        refine r_aload_n h 0 dX10_meeting_54 rfl rfl ?_
        refine r_iload_n h 1 dX10_meeting_55 rfl rfl ?_
        refine r_iconst (v := 2) h dX10_meeting_56 (by decide) ?_
        obtain ⟨k20, hf⟩ := hf
        refine c2005 hl h dX10_meeting_57 k20 hf (Nat.le_of_ble_eq_true rfl) (by decide) (by decide) (fun x22 M21 hf => ?_)
        refine r_aload_n h 0 dX10_meeting_60 rfl rfl ?_
        refine r_iload_n h 2 dX10_meeting_61 rfl rfl ?_
        refine r_iconst (v := 2) h dX10_meeting_62 (by decide) ?_
        obtain ⟨k23, hf⟩ := hf
        refine c2005 hl h dX10_meeting_63 k23 hf (Nat.le_of_ble_eq_true rfl) (by decide) (by decide) (fun x25 M24 hf => ?_)
        refine r_icmp_eq (tgt := 71) h dX10_meeting_66 (by decide) (fun c26 => ?_) (fun c26 => ?_)
        · have hf := ite_t c26 hf
          refine r_aload_n h 0 dX10_meeting_71 rfl rfl ?_
          refine r_iload_n h 1 dX10_meeting_72 rfl rfl ?_
          refine r_iconst (v := (-1)) h dX10_meeting_73 (by decide) ?_
          obtain ⟨k27, hf⟩ := hf
          refine c2021 hl h dX10_meeting_74 k27 hf (Nat.le_of_ble_eq_true rfl) (by decide) (by decide) (fun M28 hf => ?_)
          refine r_aload_n h 0 dX10_meeting_77 rfl rfl ?_
          obtain ⟨k29, hf⟩ := hf
          refine c2141 hl h dX10_meeting_78 k29 hf (Nat.le_of_ble_eq_true rfl) (by decide) (by decide) (fun M30 hf => ?_)
          refine r_aload_n h 0 dX10_meeting_81 rfl rfl ?_
          refine r_iload_n h 2 dX10_meeting_82 rfl rfl ?_
          refine r_iconst (v := (-1)) h dX10_meeting_83 (by decide) ?_
          obtain ⟨k31, hf⟩ := hf
          refine c2021 hl h dX10_meeting_84 k31 hf (Nat.le_of_ble_eq_true rfl) (by decide) (by decide) (fun M32 hf => ?_)
          refine r_aload_n h 0 dX10_meeting_87 rfl rfl ?_
          obtain ⟨k33, hf⟩ := hf
          refine c1843 hl h dX10_meeting_88 k33 hf (Nat.le_of_ble_eq_true rfl) (by decide) (by decide) (fun x35 M34 hf => ?_)
          refine r_istore_n (lv' := [(3, .int x35), (0, .ref v0), (1, .int v1), (2, .int v2)]) h dX10_meeting_91 rfl (by decide) rfl ?_
          exact V.sub [1, 0] rfl hf
        · have hf := ite_f c26 hf
          refine r_iconst (v := (-1)) h dX10_meeting_69 (by decide) ?_
          exact r_ireturn h hq dX10_meeting_70 ⟨_, rfl, hf⟩
      · have hf := ite_f c19 hf
        refine r_iconst (v := 0) h dX10_meeting_52 (by decide) ?_
        exact r_ireturn h hq dX10_meeting_53 ⟨_, rfl, hf⟩)
    (by
      intro v0 v3 M hf
      show V l G X 0 0 M 92 [(0, .ref v0), (3, .int v3)] []
      refine r_iload_n h 1 dX10_meeting_92 rfl rfl ?_
      refine r_sipush (v := 300) h dX10_meeting_93 (by decide) ?_
      refine r_icmp_ge (tgt := 138) h dX10_meeting_96 (by decide) (fun c36 => ?_) (fun c36 => ?_)
      · have hf := ite_t c36 hf
        refine r_iconst (v := (-1)) h dX10_meeting_138 (by decide) ?_
        exact r_ireturn h hq dX10_meeting_139 ⟨_, rfl, hf⟩
      · have hf := ite_f c36 hf
        refine r_aload_n h 0 dX10_meeting_99 rfl rfl ?_
        refine r_iload_n h 1 dX10_meeting_100 rfl rfl ?_
        obtain ⟨k37, hf⟩ := hf
        refine c2049 hl h dX10_meeting_101 k37 hf (Nat.le_of_ble_eq_true rfl) (by decide) (by decide) (fun x39 M38 hf => ?_)
        refine r_if_eq (tgt := 132) h dX10_meeting_104 (by decide) (fun c40 => ?_) (fun c40 => ?_)
        · have hf := ite_t c40 hf
          refine r_iinc (v := v3 + 1) (lv' := [(3, .int (v3 + 1)), (0, .ref v0)]) h 1 dX10_meeting_132 rfl rfl (by decide) rfl ?_
          refine r_goto (tgt := 92) h dX10_meeting_135 (by decide) ?_
          exact V.sub [1, 0] rfl hf
        · have hf := ite_f c40 hf
          refine r_aload_n h 0 dX10_meeting_107 rfl rfl ?_
          refine r_iload_n h 1 dX10_meeting_108 rfl rfl ?_
          obtain ⟨k41, hf⟩ := hf
          refine c2149 hl h dX10_meeting_109 k41 hf (Nat.le_of_ble_eq_true rfl) (by decide) (by decide) (fun x43 M42 hf => ?_)
          refine r_if_eq (tgt := 132) h dX10_meeting_112 (by decide) (fun c44 => ?_) (fun c44 => ?_)
          · have hf := ite_t c44 hf
            refine r_iinc (v := v3 + 1) (lv' := [(3, .int (v3 + 1)), (0, .ref v0)]) h 1 dX10_meeting_132 rfl rfl (by decide) rfl ?_
            refine r_goto (tgt := 92) h dX10_meeting_135 (by decide) ?_
            exact V.sub [1, 0] rfl hf
          · have hf := ite_f c44 hf
            refine r_aload_n h 0 dX10_meeting_115 rfl rfl ?_
            obtain ⟨k45, hf⟩ := hf
            obtain ⟨b46, e47, hf⟩ := hf
            refine g1624 h dX10_meeting_116 k45 e47 ?_
            refine r_iload_n h 1 dX10_meeting_119 rfl rfl ?_
            obtain ⟨j48, hf⟩ := hf
            refine r_iaload h dX10_meeting_120 j48 ?_
            refine r_aload_n h 0 dX10_meeting_121 rfl rfl ?_
            obtain ⟨b49, e50, hf⟩ := hf
            refine g1629 h dX10_meeting_122 k45 e50 ?_
            refine r_iload_n h 1 dX10_meeting_125 rfl rfl ?_
            obtain ⟨j51, hf⟩ := hf
            refine r_iaload h dX10_meeting_126 j51 ?_
            refine r_icmp_ne (tgt := 132) h dX10_meeting_127 (by decide) (fun c52 => ?_) (fun c52 => ?_)
            · have hf := ite_f c52 hf
              refine r_iinc (v := v3 + 1) (lv' := [(3, .int (v3 + 1)), (0, .ref v0)]) h 1 dX10_meeting_132 rfl rfl (by decide) rfl ?_
              refine r_goto (tgt := 92) h dX10_meeting_135 (by decide) ?_
              exact V.sub [1, 0] rfl hf
            · have hf := ite_t c52 hf
              refine r_iload_n h 1 dX10_meeting_130 rfl rfl ?_
              exact r_ireturn h hq dX10_meeting_131 ⟨_, rfl, hf⟩)
  refine r_aload_n h 0 dX10_meeting_0 rfl rfl ?_
  refine r_iconst (v := 0) h dX10_meeting_1 (by decide) ?_
  obtain ⟨k1, hf⟩ := hf
  refine p1597 h dX10_meeting_2 k1 ?_
  refine r_goW (fun M2 eM2 => ?_)
  have hf := hf M2 eM2
  refine r_aload_n h 0 dX10_meeting_5 rfl rfl ?_
  refine r_aload_n h 0 dX10_meeting_6 rfl rfl ?_
  refine r_iload_n h 1 dX10_meeting_7 rfl rfl ?_
  obtain ⟨k3, hf⟩ := hf
  refine c2037 hl h dX10_meeting_8 k3 hf (Nat.le_of_ble_eq_true rfl) (by decide) (by decide) (fun x5 M4 hf => ?_)
  refine r_if_ne (tgt := 22) h dX10_meeting_11 (by decide) (fun c6 => ?_) (fun c6 => ?_)
  · have hf := ite_f c6 hf
    refine r_iconst (v := 1) h dX10_meeting_22 (by decide) ?_
    refine r_goto (tgt := 27) h dX10_meeting_23 (by decide) ?_
    exact V.sub [0, 1, 2] rfl hf
  · have hf := ite_t c6 hf
    refine r_aload_n h 0 dX10_meeting_14 rfl rfl ?_
    refine r_iload_n h 2 dX10_meeting_15 rfl rfl ?_
    obtain ⟨k7, hf⟩ := hf
    refine c2037 hl h dX10_meeting_16 k7 hf (Nat.le_of_ble_eq_true rfl) (by decide) (by decide) (fun x9 M8 hf => ?_)
    refine r_if_eq (tgt := 26) h dX10_meeting_19 (by decide) (fun c10 => ?_) (fun c10 => ?_)
    · have hf := ite_t c10 hf
      refine r_iconst (v := 0) h dX10_meeting_26 (by decide) ?_
      exact V.sub [0, 1, 2] rfl hf
    · have hf := ite_f c10 hf
      refine r_iconst (v := 1) h dX10_meeting_22 (by decide) ?_
      refine r_goto (tgt := 27) h dX10_meeting_23 (by decide) ?_
      exact V.sub [0, 1, 2] rfl hf
theorem c2240 {l : Launch} {G : gG} {X : gX} {cc : ByteArray} {nL F L bc bs pc : Nat} {M : gM} {lv : List (Nat × Value)} {rest : List Value} {a0 : Nat} {a1 : Int32} {a2 : Int32} {K : Int32 → gM → Prop} (hl : l.stackTraces = false) (h : hX l G X cc nL "GlacierMailLaw" F L) (d : decode cc pc = .ok (.invokevirtual 267, 3)) (hk : kd M a0 = some (.inl 10)) (hf : f_X10_meeting a0 a1 a2 M K) (hst : (rest.map fun v => v.category).sum ≤ 8) (hF : 8 ≤ F) (hL : 191 ≤ L) (kk : ∀ x M1, K x M1 → V l G X bc bs M1 (pc + 3) lv (.int x :: rest)) : V l G X bc bs M pc lv (.int a2 :: .int a1 :: .ref a0 :: rest) := r_callV (n := 2) (As := [.int a1, .int a2]) h (m_X10_meeting hl hf) 10 rfl hk rfl ⟨by decide, by decide, by decide +kernel⟩ d q2240 q2241 q2242 q147 q2243 rfl rfl hst hF hL (Nat.zero_le _) (Nat.zero_le _) (kI_go kk) kN_go
def f_X10_outs (a0 : Nat) (a1 : Int32) (M : gM) (K : Int32 → gM → Prop) : Prop :=
  kd M a0 = some (.inl 10) ∧ ∀ M2, M2 = sI M a0 0 0 → f_X10_noYear a1 M2 (fun x4 M3 => kd M3 a0 = some (.inl 10) ∧ f_X10_throwsIf a0 x4 1 M3 (fun x7 M6 => if x7 = 0 then kd M6 a0 = some (.inl 10) ∧ f_X10_outsAll a0 M6 (fun M10 => kd M10 a0 = some (.inl 10) ∧ f_X10_outsIn a0 a1 (-1) 1 M10 (fun x13 M12 => K x13 M12)) else K 0 M6))
set_option maxHeartbeats 4000000 in
theorem m_X10_outs {l : Launch} (hl : l.stackTraces = false) {G : gG} {a0 : Nat} {a1 : Int32} {M : gM} {K : Int32 → gM → Prop} (hf : f_X10_outs a0 a1 M K) : gMet l G yX10_outs (ws_ yX10_outs cX10_outs 2 (some Jvm.ClassFile.FieldType.int)) ({ frames := 9, cells := 0, slots := 0, locals := 210 }) M [.ref a0, .int a1] (kI K) kN := by
  refine gm_of hl (ret := (some Jvm.ClassFile.FieldType.int)) rfl (Nat.le_of_ble_eq_true rfl) (fun X h hq => ?_)
  have h : hX l G X cX10_outs 2 "GlacierMailModel" 9 210 := h
  have hf := hf
  show V l G X 0 0 M 0 [(0, .ref a0), (1, .int a1)] []
  unfold f_X10_outs at hf
  refine r_aload_n h 0 dX10_outs_0 rfl rfl ?_
  refine r_iconst (v := 0) h dX10_outs_1 (by decide) ?_
  obtain ⟨k1, hf⟩ := hf
  refine p1597 h dX10_outs_2 k1 ?_
  refine r_goW (fun M2 eM2 => ?_)
  have hf := hf M2 eM2
  refine r_aload_n h 0 dX10_outs_5 rfl rfl ?_
  refine r_iload_n h 1 dX10_outs_6 rfl rfl ?_
  refine c1941 hl h dX10_outs_7 hf (Nat.le_of_ble_eq_true rfl) (by decide) (by decide) (fun x4 M3 hf => ?_)
  refine r_iconst (v := 1) h dX10_outs_10 (by decide) ?_
  obtain ⟨k5, hf⟩ := hf
  refine c1929 hl h dX10_outs_11 k5 hf (Nat.le_of_ble_eq_true rfl) (by decide) (by decide) (fun x7 M6 hf => ?_)
  refine r_if_eq (tgt := 19) h dX10_outs_14 (by decide) (fun c8 => ?_) (fun c8 => ?_)
  · have hf := ite_t c8 hf
    refine r_aload_n h 0 dX10_outs_19 rfl rfl ?_
    obtain ⟨k9, hf⟩ := hf
    refine c2129 hl h dX10_outs_20 k9 hf (Nat.le_of_ble_eq_true rfl) (by decide) (by decide) (fun M10 hf => ?_)
    refine r_aload_n h 0 dX10_outs_23 rfl rfl ?_
    refine r_iload_n h 1 dX10_outs_24 rfl rfl ?_
    refine r_iconst (v := (-1)) h dX10_outs_25 (by decide) ?_
    refine r_iconst (v := 1) h dX10_outs_26 (by decide) ?_
    obtain ⟨k11, hf⟩ := hf
    refine c2133 hl h dX10_outs_27 k11 hf (Nat.le_of_ble_eq_true rfl) (by decide) (by decide) (fun x13 M12 hf => ?_)
    exact r_ireturn h hq dX10_outs_30 ⟨_, rfl, hf⟩
  · have hf := ite_f c8 hf
    refine r_iconst (v := 0) h dX10_outs_17 (by decide) ?_
    exact r_ireturn h hq dX10_outs_18 ⟨_, rfl, hf⟩
theorem c2244 {l : Launch} {G : gG} {X : gX} {cc : ByteArray} {nL F L bc bs pc : Nat} {M : gM} {lv : List (Nat × Value)} {rest : List Value} {a0 : Nat} {a1 : Int32} {K : Int32 → gM → Prop} (hl : l.stackTraces = false) (h : hX l G X cc nL "GlacierMailLaw" F L) (d : decode cc pc = .ok (.invokevirtual 270, 3)) (hk : kd M a0 = some (.inl 10)) (hf : f_X10_outs a0 a1 M K) (hst : (rest.map fun v => v.category).sum ≤ 8) (hF : 10 ≤ F) (hL : 231 ≤ L) (kk : ∀ x M1, K x M1 → V l G X bc bs M1 (pc + 3) lv (.int x :: rest)) : V l G X bc bs M pc lv (.int a1 :: .ref a0 :: rest) := r_callV (n := 1) (As := [.int a1]) h (m_X10_outs hl hf) 10 rfl hk rfl ⟨by decide, by decide, by decide +kernel⟩ d q2244 q2245 q2246 q147 q2247 rfl rfl hst hF hL (Nat.zero_le _) (Nat.zero_le _) (kI_go kk) kN_go
def f_X10_order (a0 : Nat) (a1 : Int32) (M : gM) (K : Int32 → gM → Prop) : Prop :=
  ∀ P13 : Nat → Int32 → Int32 → Int32 → gM → Prop,
  ∀ P27 : Nat → Int32 → Int32 → Int32 → Int32 → gM → Prop,
  (∀ (v0 : Nat) (v1 : Int32) (v2 : Int32) (v3 : Int32) (M : gM), (if 300 ≤ v3 then K (-1) M else if v1 < 0 then K (-1) M else P27 v0 v1 v2 v3 0 M) → P13 v0 v1 v2 v3 M) →
  (∀ (v0 : Nat) (v1 : Int32) (v2 : Int32) (v3 : Int32) (v4 : Int32) (M : gM), (kd M v0 = some (.inl 10) ∧ f_X10_letters v0 M (fun x9 M8 => if x9 ≤ v4 then P13 v0 v1 v2 (v3 + 1) M8 else kd M8 v0 = some (.inl 10) ∧ ∃ b12, rv M8 v0 31 = some b12 ∧ inA M8 b12 0 v4 ∧ if (iv M8 b12 (ix v4)) = v3 then if v2 = 0 then K v4 M8 else P27 v0 v1 (v2 + (-1)) v3 (v4 + 1) M8 else P27 v0 v1 v2 v3 (v4 + 1) M8)) → P27 v0 v1 v2 v3 v4 M) →
  kd M a0 = some (.inl 10) ∧ ∀ M2, M2 = sI M a0 0 0 → kd M2 a0 = some (.inl 10) ∧ f_X10_outsAll a0 M2 (fun M4 => P13 a0 a1 a1 0 M4)
set_option maxHeartbeats 4000000 in
theorem m_X10_order {l : Launch} (hl : l.stackTraces = false) {G : gG} {a0 : Nat} {a1 : Int32} {M : gM} {K : Int32 → gM → Prop} (hf : f_X10_order a0 a1 M K) : gMet l G yX10_order (ws_ yX10_order cX10_order 5 (some Jvm.ClassFile.FieldType.int)) ({ frames := 9, cells := 0, slots := 0, locals := 210 }) M [.ref a0, .int a1] (kI K) kN := by
  refine gm_of hl (ret := (some Jvm.ClassFile.FieldType.int)) rfl (Nat.le_of_ble_eq_true rfl) (fun X h hq => ?_)
  have h : hX l G X cX10_order 5 "GlacierMailModel" 9 210 := h
  have hf := hf
  show V l G X 0 0 M 0 [(0, .ref a0), (1, .int a1)] []
  have hf := hf
    (fun v0 v1 v2 v3 M => V l G X 0 0 M 13 [(0, .ref v0), (1, .int v1), (2, .int v2), (3, .int v3)] [])
    (fun v0 v1 v2 v3 v4 M => V l G X 0 0 M 27 [(0, .ref v0), (1, .int v1), (2, .int v2), (3, .int v3), (4, .int v4)] [])
    (by
      intro v0 v1 v2 v3 M hf
      show V l G X 0 0 M 13 [(0, .ref v0), (1, .int v1), (2, .int v2), (3, .int v3)] []
      refine r_iload_n h 3 dX10_order_13 rfl rfl ?_
      refine r_sipush (v := 300) h dX10_order_14 (by decide) ?_
      refine r_icmp_ge (tgt := 72) h dX10_order_17 (by decide) (fun c5 => ?_) (fun c5 => ?_)
      · have hf := ite_t c5 hf
        refine r_iconst (v := (-1)) h dX10_order_72 (by decide) ?_
        exact r_ireturn h hq dX10_order_73 ⟨_, rfl, hf⟩
      · have hf := ite_f c5 hf
        refine r_iload_n h 1 dX10_order_20 rfl rfl ?_
        refine r_if_lt (tgt := 72) h dX10_order_21 (by decide) (fun c6 => ?_) (fun c6 => ?_)
        · have hf := ite_t c6 hf
          refine r_iconst (v := (-1)) h dX10_order_72 (by decide) ?_
          exact r_ireturn h hq dX10_order_73 ⟨_, rfl, hf⟩
        · have hf := ite_f c6 hf
          refine r_iconst (v := 0) h dX10_order_24 (by decide) ?_
          refine r_istore (lv' := [(4, .int 0), (0, .ref v0), (1, .int v1), (2, .int v2), (3, .int v3)]) h dX10_order_25 (by decide) rfl ?_
          exact V.sub [1, 2, 3, 4, 0] rfl hf)
    (by
      intro v0 v1 v2 v3 v4 M hf
      show V l G X 0 0 M 27 [(0, .ref v0), (1, .int v1), (2, .int v2), (3, .int v3), (4, .int v4)] []
      refine r_iload h 4 dX10_order_27 rfl ?_
      refine r_aload_n h 0 dX10_order_29 rfl rfl ?_
      obtain ⟨k7, hf⟩ := hf
      refine c1790 hl h dX10_order_30 k7 hf (Nat.le_of_ble_eq_true rfl) (by decide) (by decide) (fun x9 M8 hf => ?_)
      refine r_icmp_ge (tgt := 66) h dX10_order_33 (by decide) (fun c10 => ?_) (fun c10 => ?_)
      · have hf := ite_t c10 hf
        refine r_iinc (v := v3 + 1) (lv' := [(3, .int (v3 + 1)), (0, .ref v0), (1, .int v1), (2, .int v2), (4, .int v4)]) h 3 dX10_order_66 rfl rfl (by decide) rfl ?_
        refine r_goto (tgt := 13) h dX10_order_69 (by decide) ?_
        exact V.sub [1, 2, 3, 0] rfl hf
      · have hf := ite_f c10 hf
        refine r_aload_n h 0 dX10_order_36 rfl rfl ?_
        obtain ⟨k11, hf⟩ := hf
        obtain ⟨b12, e13, hf⟩ := hf
        refine g1628 h dX10_order_37 k11 e13 ?_
        refine r_iload h 4 dX10_order_40 rfl ?_
        obtain ⟨j14, hf⟩ := hf
        refine r_iaload h dX10_order_42 j14 ?_
        refine r_iload_n h 3 dX10_order_43 rfl rfl ?_
        refine r_icmp_eq (tgt := 50) h dX10_order_44 (by decide) (fun c15 => ?_) (fun c15 => ?_)
        · have hf := ite_t c15 hf
          refine r_iload_n h 2 dX10_order_50 rfl rfl ?_
          refine r_if_ne (tgt := 57) h dX10_order_51 (by decide) (fun c16 => ?_) (fun c16 => ?_)
          · have hf := ite_f c16 hf
            refine r_iinc (v := v2 + (-1)) (lv' := [(2, .int (v2 + (-1))), (0, .ref v0), (1, .int v1), (3, .int v3), (4, .int v4)]) h 2 dX10_order_57 rfl rfl (by decide) rfl ?_
            refine r_iinc (v := v4 + 1) (lv' := [(4, .int (v4 + 1)), (2, .int (v2 + (-1))), (0, .ref v0), (1, .int v1), (3, .int v3)]) h 4 dX10_order_60 rfl rfl (by decide) rfl ?_
            refine r_goto (tgt := 27) h dX10_order_63 (by decide) ?_
            exact V.sub [2, 3, 1, 4, 0] rfl hf
          · have hf := ite_t c16 hf
            refine r_iload h 4 dX10_order_54 rfl ?_
            exact r_ireturn h hq dX10_order_56 ⟨_, rfl, hf⟩
        · have hf := ite_f c15 hf
          refine r_goto (tgt := 60) h dX10_order_47 (by decide) ?_
          refine r_iinc (v := v4 + 1) (lv' := [(4, .int (v4 + 1)), (0, .ref v0), (1, .int v1), (2, .int v2), (3, .int v3)]) h 4 dX10_order_60 rfl rfl (by decide) rfl ?_
          refine r_goto (tgt := 27) h dX10_order_63 (by decide) ?_
          exact V.sub [1, 2, 3, 4, 0] rfl hf)
  refine r_aload_n h 0 dX10_order_0 rfl rfl ?_
  refine r_iconst (v := 0) h dX10_order_1 (by decide) ?_
  obtain ⟨k1, hf⟩ := hf
  refine p1597 h dX10_order_2 k1 ?_
  refine r_goW (fun M2 eM2 => ?_)
  have hf := hf M2 eM2
  refine r_aload_n h 0 dX10_order_5 rfl rfl ?_
  obtain ⟨k3, hf⟩ := hf
  refine c2129 hl h dX10_order_6 k3 hf (Nat.le_of_ble_eq_true rfl) (by decide) (by decide) (fun M4 hf => ?_)
  refine r_iload_n h 1 dX10_order_9 rfl rfl ?_
  refine r_istore_n (lv' := [(2, .int a1), (0, .ref a0), (1, .int a1)]) h dX10_order_10 rfl (by decide) rfl ?_
  refine r_iconst (v := 0) h dX10_order_11 (by decide) ?_
  refine r_istore_n (lv' := [(3, .int 0), (2, .int a1), (0, .ref a0), (1, .int a1)]) h dX10_order_12 rfl (by decide) rfl ?_
  exact V.sub [2, 3, 1, 0] rfl hf
theorem c2248 {l : Launch} {G : gG} {X : gX} {cc : ByteArray} {nL F L bc bs pc : Nat} {M : gM} {lv : List (Nat × Value)} {rest : List Value} {a0 : Nat} {a1 : Int32} {K : Int32 → gM → Prop} (hl : l.stackTraces = false) (h : hX l G X cc nL "GlacierMailLaw" F L) (d : decode cc pc = .ok (.invokevirtual 274, 3)) (hk : kd M a0 = some (.inl 10)) (hf : f_X10_order a0 a1 M K) (hst : (rest.map fun v => v.category).sum ≤ 8) (hF : 10 ≤ F) (hL : 234 ≤ L) (kk : ∀ x M1, K x M1 → V l G X bc bs M1 (pc + 3) lv (.int x :: rest)) : V l G X bc bs M pc lv (.int a1 :: .ref a0 :: rest) := r_callV (n := 1) (As := [.int a1]) h (m_X10_order hl hf) 10 rfl hk rfl ⟨by decide, by decide, by decide +kernel⟩ d q2248 q2249 q2250 q147 q2251 rfl rfl hst hF hL (Nat.zero_le _) (Nat.zero_le _) (kI_go kk) kN_go
def f_X10_streams (a0 : Nat) (a1 : Int32) (a2 : Int32) (M : gM) (K : Int32 → gM → Prop) : Prop :=
  ∀ P28 : Nat → Int32 → Int32 → Int32 → Int32 → gM → Prop,
  ∀ P81 : Nat → Int32 → Int32 → Int32 → Int32 → Int32 → gM → Prop,
  (∀ (v0 : Nat) (v1 : Int32) (v2 : Int32) (v3 : Int32) (v4 : Int32) (M : gM), (kd M v0 = some (.inl 10) ∧ f_X10_letters v0 M (fun x13 M12 => if x13 ≤ v4 then K v3 M12 else kd M12 v0 = some (.inl 10) ∧ ∃ b16, rv M12 v0 31 = some b16 ∧ inA M12 b16 0 v4 ∧ if (iv M12 b16 (ix v4)) < 0 then P28 v0 v1 v2 (v3 + 0) (v4 + 1) M12 else ∃ b20, rv M12 v0 31 = some b20 ∧ inA M12 b20 0 v4 ∧ if v1 < (iv M12 b20 (ix v4)) then P28 v0 v1 v2 (v3 + 0) (v4 + 1) M12 else f_X10_ofLetter v0 v4 2 M12 (fun x25 M24 => kd M24 v0 = some (.inl 10) ∧ ∃ b27, rv M24 v0 1 = some b27 ∧ inA M24 b27 0 12 ∧ if x25 < (iv M24 b27 (ix 12)) then P81 v0 v1 v2 v4 0 v3 M24 else P81 v0 v1 v2 v4 1 v3 M24))) → P28 v0 v1 v2 v3 v4 M) →
  (∀ (v0 : Nat) (v1 : Int32) (v2 : Int32) (v4 : Int32) (s0 : Int32) (s1 : Int32) (M : gM), (if s0 = v2 then P28 v0 v1 v2 (s1 + 1) (v4 + 1) M else P28 v0 v1 v2 (s1 + 0) (v4 + 1) M) → P81 v0 v1 v2 v4 s0 s1 M) →
  kd M a0 = some (.inl 10) ∧ ∀ M2, M2 = sI M a0 0 0 → f_X10_noYear a1 M2 (fun x4 M3 => kd M3 a0 = some (.inl 10) ∧ f_X10_throwsIf a0 x4 1 M3 (fun x7 M6 => if x7 = 0 then kd M6 a0 = some (.inl 10) ∧ f_X10_outsAll a0 M6 (fun M10 => P28 a0 a1 a2 0 0 M10) else K 0 M6))
set_option maxHeartbeats 4000000 in
theorem m_X10_streams {l : Launch} (hl : l.stackTraces = false) {G : gG} {a0 : Nat} {a1 : Int32} {a2 : Int32} {M : gM} {K : Int32 → gM → Prop} (hf : f_X10_streams a0 a1 a2 M K) : gMet l G yX10_streams (ws_ yX10_streams cX10_streams 5 (some Jvm.ClassFile.FieldType.int)) ({ frames := 9, cells := 0, slots := 0, locals := 210 }) M [.ref a0, .int a1, .int a2] (kI K) kN := by
  refine gm_of hl (ret := (some Jvm.ClassFile.FieldType.int)) rfl (Nat.le_of_ble_eq_true rfl) (fun X h hq => ?_)
  have h : hX l G X cX10_streams 5 "GlacierMailModel" 9 210 := h
  have hf := hf
  show V l G X 0 0 M 0 [(0, .ref a0), (1, .int a1), (2, .int a2)] []
  have hf := hf
    (fun v0 v1 v2 v3 v4 M => V l G X 0 0 M 28 [(0, .ref v0), (1, .int v1), (2, .int v2), (3, .int v3), (4, .int v4)] [])
    (fun v0 v1 v2 v4 s0 s1 M => V l G X 0 0 M 81 [(0, .ref v0), (1, .int v1), (2, .int v2), (4, .int v4)] [.int s0, .int s1])
    (by
      intro v0 v1 v2 v3 v4 M hf
      show V l G X 0 0 M 28 [(0, .ref v0), (1, .int v1), (2, .int v2), (3, .int v3), (4, .int v4)] []
      refine r_iload h 4 dX10_streams_28 rfl ?_
      refine r_aload_n h 0 dX10_streams_30 rfl rfl ?_
      obtain ⟨k11, hf⟩ := hf
      refine c1790 hl h dX10_streams_31 k11 hf (Nat.le_of_ble_eq_true rfl) (by decide) (by decide) (fun x13 M12 hf => ?_)
      refine r_icmp_ge (tgt := 98) h dX10_streams_34 (by decide) (fun c14 => ?_) (fun c14 => ?_)
      · have hf := ite_t c14 hf
        refine r_iload_n h 3 dX10_streams_98 rfl rfl ?_
        exact r_ireturn h hq dX10_streams_99 ⟨_, rfl, hf⟩
      · have hf := ite_f c14 hf
        refine r_iload_n h 3 dX10_streams_37 rfl rfl ?_
        refine r_aload_n h 0 dX10_streams_38 rfl rfl ?_
        obtain ⟨k15, hf⟩ := hf
        obtain ⟨b16, e17, hf⟩ := hf
        refine g1628 h dX10_streams_39 k15 e17 ?_
        refine r_iload h 4 dX10_streams_42 rfl ?_
        obtain ⟨j18, hf⟩ := hf
        refine r_iaload h dX10_streams_44 j18 ?_
        refine r_if_lt (tgt := 89) h dX10_streams_45 (by decide) (fun c19 => ?_) (fun c19 => ?_)
        · have hf := ite_t c19 hf
          refine r_iconst (v := 0) h dX10_streams_89 (by decide) ?_
          refine r_iadd h dX10_streams_90 ?_
          refine r_istore_n (lv' := [(3, .int (v3 + 0)), (0, .ref v0), (1, .int v1), (2, .int v2), (4, .int v4)]) h dX10_streams_91 rfl (by decide) rfl ?_
          refine r_iinc (v := v4 + 1) (lv' := [(4, .int (v4 + 1)), (3, .int (v3 + 0)), (0, .ref v0), (1, .int v1), (2, .int v2)]) h 4 dX10_streams_92 rfl rfl (by decide) rfl ?_
          refine r_goto (tgt := 28) h dX10_streams_95 (by decide) ?_
          exact V.sub [2, 3, 4, 1, 0] rfl hf
        · have hf := ite_f c19 hf
          refine r_aload_n h 0 dX10_streams_48 rfl rfl ?_
          obtain ⟨b20, e21, hf⟩ := hf
          refine g1628 h dX10_streams_49 k15 e21 ?_
          refine r_iload h 4 dX10_streams_52 rfl ?_
          obtain ⟨j22, hf⟩ := hf
          refine r_iaload h dX10_streams_54 j22 ?_
          refine r_iload_n h 1 dX10_streams_55 rfl rfl ?_
          refine r_icmp_gt (tgt := 89) h dX10_streams_56 (by decide) (fun c23 => ?_) (fun c23 => ?_)
          · have hf := ite_t c23 hf
            refine r_iconst (v := 0) h dX10_streams_89 (by decide) ?_
            refine r_iadd h dX10_streams_90 ?_
            refine r_istore_n (lv' := [(3, .int (v3 + 0)), (0, .ref v0), (1, .int v1), (2, .int v2), (4, .int v4)]) h dX10_streams_91 rfl (by decide) rfl ?_
            refine r_iinc (v := v4 + 1) (lv' := [(4, .int (v4 + 1)), (3, .int (v3 + 0)), (0, .ref v0), (1, .int v1), (2, .int v2)]) h 4 dX10_streams_92 rfl rfl (by decide) rfl ?_
            refine r_goto (tgt := 28) h dX10_streams_95 (by decide) ?_
            exact V.sub [2, 3, 4, 1, 0] rfl hf
          · have hf := ite_f c23 hf
            refine r_aload_n h 0 dX10_streams_59 rfl rfl ?_
            refine r_iload h 4 dX10_streams_60 rfl ?_
            refine r_iconst (v := 2) h dX10_streams_62 (by decide) ?_
            refine c2005 hl h dX10_streams_63 k15 hf (Nat.le_of_ble_eq_true rfl) (by decide) (by decide) (fun x25 M24 hf => ?_)
            refine r_aload_n h 0 dX10_streams_66 rfl rfl ?_
            obtain ⟨k26, hf⟩ := hf
            obtain ⟨b27, e28, hf⟩ := hf
            refine g1598 h dX10_streams_67 k26 e28 ?_
            refine r_bipush (v := 12) h dX10_streams_70 (by decide) ?_
            obtain ⟨j29, hf⟩ := hf
            refine r_iaload h dX10_streams_72 j29 ?_
            refine r_icmp_lt (tgt := 80) h dX10_streams_73 (by decide) (fun c30 => ?_) (fun c30 => ?_)
            · have hf := ite_t c30 hf
              refine r_iconst (v := 0) h dX10_streams_80 (by decide) ?_
              exact V.sub [0, 1, 2, 4] rfl hf
            · have hf := ite_f c30 hf
              refine r_iconst (v := 1) h dX10_streams_76 (by decide) ?_
              refine r_goto (tgt := 81) h dX10_streams_77 (by decide) ?_
              exact V.sub [0, 1, 2, 4] rfl hf)
    (by
      intro v0 v1 v2 v4 s0 s1 M hf
      show V l G X 0 0 M 81 [(0, .ref v0), (1, .int v1), (2, .int v2), (4, .int v4)] [.int s0, .int s1]
      refine r_iload_n h 2 dX10_streams_81 rfl rfl ?_
      refine r_icmp_ne (tgt := 89) h dX10_streams_82 (by decide) (fun c31 => ?_) (fun c31 => ?_)
      · have hf := ite_f c31 hf
        refine r_iconst (v := 0) h dX10_streams_89 (by decide) ?_
        refine r_iadd h dX10_streams_90 ?_
        refine r_istore_n (lv' := [(3, .int (s1 + 0)), (0, .ref v0), (1, .int v1), (2, .int v2), (4, .int v4)]) h dX10_streams_91 rfl (by decide) rfl ?_
        refine r_iinc (v := v4 + 1) (lv' := [(4, .int (v4 + 1)), (3, .int (s1 + 0)), (0, .ref v0), (1, .int v1), (2, .int v2)]) h 4 dX10_streams_92 rfl rfl (by decide) rfl ?_
        refine r_goto (tgt := 28) h dX10_streams_95 (by decide) ?_
        exact V.sub [2, 3, 4, 1, 0] rfl hf
      · have hf := ite_t c31 hf
        refine r_iconst (v := 1) h dX10_streams_85 (by decide) ?_
        refine r_goto (tgt := 90) h dX10_streams_86 (by decide) ?_
        refine r_iadd h dX10_streams_90 ?_
        refine r_istore_n (lv' := [(3, .int (s1 + 1)), (0, .ref v0), (1, .int v1), (2, .int v2), (4, .int v4)]) h dX10_streams_91 rfl (by decide) rfl ?_
        refine r_iinc (v := v4 + 1) (lv' := [(4, .int (v4 + 1)), (3, .int (s1 + 1)), (0, .ref v0), (1, .int v1), (2, .int v2)]) h 4 dX10_streams_92 rfl rfl (by decide) rfl ?_
        refine r_goto (tgt := 28) h dX10_streams_95 (by decide) ?_
        exact V.sub [2, 3, 4, 1, 0] rfl hf)
  refine r_aload_n h 0 dX10_streams_0 rfl rfl ?_
  refine r_iconst (v := 0) h dX10_streams_1 (by decide) ?_
  obtain ⟨k1, hf⟩ := hf
  refine p1597 h dX10_streams_2 k1 ?_
  refine r_goW (fun M2 eM2 => ?_)
  have hf := hf M2 eM2
  refine r_aload_n h 0 dX10_streams_5 rfl rfl ?_
  refine r_iload_n h 1 dX10_streams_6 rfl rfl ?_
  refine c1941 hl h dX10_streams_7 hf (Nat.le_of_ble_eq_true rfl) (by decide) (by decide) (fun x4 M3 hf => ?_)
  refine r_iconst (v := 1) h dX10_streams_10 (by decide) ?_
  obtain ⟨k5, hf⟩ := hf
  refine c1929 hl h dX10_streams_11 k5 hf (Nat.le_of_ble_eq_true rfl) (by decide) (by decide) (fun x7 M6 hf => ?_)
  refine r_if_eq (tgt := 19) h dX10_streams_14 (by decide) (fun c8 => ?_) (fun c8 => ?_)
  · have hf := ite_t c8 hf
    refine r_aload_n h 0 dX10_streams_19 rfl rfl ?_
    obtain ⟨k9, hf⟩ := hf
    refine c2129 hl h dX10_streams_20 k9 hf (Nat.le_of_ble_eq_true rfl) (by decide) (by decide) (fun M10 hf => ?_)
    refine r_iconst (v := 0) h dX10_streams_23 (by decide) ?_
    refine r_istore_n (lv' := [(3, .int 0), (0, .ref a0), (1, .int a1), (2, .int a2)]) h dX10_streams_24 rfl (by decide) rfl ?_
    refine r_iconst (v := 0) h dX10_streams_25 (by decide) ?_
    refine r_istore (lv' := [(4, .int 0), (3, .int 0), (0, .ref a0), (1, .int a1), (2, .int a2)]) h dX10_streams_26 (by decide) rfl ?_
    exact V.sub [2, 3, 4, 1, 0] rfl hf
  · have hf := ite_f c8 hf
    refine r_iconst (v := 0) h dX10_streams_17 (by decide) ?_
    exact r_ireturn h hq dX10_streams_18 ⟨_, rfl, hf⟩
theorem c2252 {l : Launch} {G : gG} {X : gX} {cc : ByteArray} {nL F L bc bs pc : Nat} {M : gM} {lv : List (Nat × Value)} {rest : List Value} {a0 : Nat} {a1 : Int32} {a2 : Int32} {K : Int32 → gM → Prop} (hl : l.stackTraces = false) (h : hX l G X cc nL "GlacierMailLaw" F L) (d : decode cc pc = .ok (.invokevirtual 277, 3)) (hk : kd M a0 = some (.inl 10)) (hf : f_X10_streams a0 a1 a2 M K) (hst : (rest.map fun v => v.category).sum ≤ 8) (hF : 10 ≤ F) (hL : 234 ≤ L) (kk : ∀ x M1, K x M1 → V l G X bc bs M1 (pc + 3) lv (.int x :: rest)) : V l G X bc bs M pc lv (.int a2 :: .int a1 :: .ref a0 :: rest) := r_callV (n := 2) (As := [.int a1, .int a2]) h (m_X10_streams hl hf) 10 rfl hk rfl ⟨by decide, by decide, by decide +kernel⟩ d q2252 q2253 q2254 q147 q2255 rfl rfl hst hF hL (Nat.zero_le _) (Nat.zero_le _) (kI_go kk) kN_go
def f_X10_range (a0 : Nat) (a1 : Int32) (a2 : Int32) (M : gM) (K : Int32 → gM → Prop) : Prop :=
  kd M a0 = some (.inl 10) ∧ ∀ M2, M2 = sI M a0 0 0 → kd M2 a0 = some (.inl 10) ∧ f_X10_noLane a0 a1 M2 (fun x5 M4 => kd M4 a0 = some (.inl 10) ∧ f_X10_throwsIf a0 x5 1 M4 (fun x8 M7 => if x8 = 0 then f_X10_noYear a2 M7 (fun x11 M10 => kd M10 a0 = some (.inl 10) ∧ f_X10_throwsIf a0 x11 2 M10 (fun x14 M13 => if x14 = 0 then kd M13 a0 = some (.inl 10) ∧ f_X10_outFrom a0 a1 0 a2 M13 (fun x18 M17 => if 0 ≤ x18 then K (x18 - a2) M17 else K (-1) M17) else K 0 M13)) else K 0 M7))
set_option maxHeartbeats 4000000 in
theorem m_X10_range {l : Launch} (hl : l.stackTraces = false) {G : gG} {a0 : Nat} {a1 : Int32} {a2 : Int32} {M : gM} {K : Int32 → gM → Prop} (hf : f_X10_range a0 a1 a2 M K) : gMet l G yX10_range (ws_ yX10_range cX10_range 4 (some Jvm.ClassFile.FieldType.int)) ({ frames := 7, cells := 0, slots := 0, locals := 169 }) M [.ref a0, .int a1, .int a2] (kI K) kN := by
  refine gm_of hl (ret := (some Jvm.ClassFile.FieldType.int)) rfl (Nat.le_of_ble_eq_true rfl) (fun X h hq => ?_)
  have h : hX l G X cX10_range 4 "GlacierMailModel" 7 169 := h
  have hf := hf
  show V l G X 0 0 M 0 [(0, .ref a0), (1, .int a1), (2, .int a2)] []
  unfold f_X10_range at hf
  refine r_aload_n h 0 dX10_range_0 rfl rfl ?_
  refine r_iconst (v := 0) h dX10_range_1 (by decide) ?_
  obtain ⟨k1, hf⟩ := hf
  refine p1597 h dX10_range_2 k1 ?_
  refine r_goW (fun M2 eM2 => ?_)
  have hf := hf M2 eM2
  refine r_aload_n h 0 dX10_range_5 rfl rfl ?_
  refine r_aload_n h 0 dX10_range_6 rfl rfl ?_
  refine r_iload_n h 1 dX10_range_7 rfl rfl ?_
  obtain ⟨k3, hf⟩ := hf
  refine c1951 hl h dX10_range_8 k3 hf (Nat.le_of_ble_eq_true rfl) (by decide) (by decide) (fun x5 M4 hf => ?_)
  refine r_iconst (v := 1) h dX10_range_11 (by decide) ?_
  obtain ⟨k6, hf⟩ := hf
  refine c1929 hl h dX10_range_12 k6 hf (Nat.le_of_ble_eq_true rfl) (by decide) (by decide) (fun x8 M7 hf => ?_)
  refine r_if_ne (tgt := 30) h dX10_range_15 (by decide) (fun c9 => ?_) (fun c9 => ?_)
  · have hf := ite_f c9 hf
    refine r_iconst (v := 0) h dX10_range_30 (by decide) ?_
    exact r_ireturn h hq dX10_range_31 ⟨_, rfl, hf⟩
  · have hf := ite_t c9 hf
    refine r_aload_n h 0 dX10_range_18 rfl rfl ?_
    refine r_iload_n h 2 dX10_range_19 rfl rfl ?_
    refine c1941 hl h dX10_range_20 hf (Nat.le_of_ble_eq_true rfl) (by decide) (by decide) (fun x11 M10 hf => ?_)
    refine r_iconst (v := 2) h dX10_range_23 (by decide) ?_
    obtain ⟨k12, hf⟩ := hf
    refine c1929 hl h dX10_range_24 k12 hf (Nat.le_of_ble_eq_true rfl) (by decide) (by decide) (fun x14 M13 hf => ?_)
    refine r_if_eq (tgt := 32) h dX10_range_27 (by decide) (fun c15 => ?_) (fun c15 => ?_)
    · have hf := ite_t c15 hf
      refine r_aload_n h 0 dX10_range_32 rfl rfl ?_
      refine r_iload_n h 1 dX10_range_33 rfl rfl ?_
      refine r_iconst (v := 0) h dX10_range_34 (by decide) ?_
      refine r_iload_n h 2 dX10_range_35 rfl rfl ?_
      obtain ⟨k16, hf⟩ := hf
      refine c2101 hl h dX10_range_36 k16 hf (Nat.le_of_ble_eq_true rfl) (by decide) (by decide) (fun x18 M17 hf => ?_)
      refine r_istore_n (lv' := [(3, .int x18), (0, .ref a0), (1, .int a1), (2, .int a2)]) h dX10_range_39 rfl (by decide) rfl ?_
      refine r_iload_n h 0 dX10_range_40 rfl rfl ?_
      refine r_if_ge (tgt := 48) h dX10_range_41 (by decide) (fun c19 => ?_) (fun c19 => ?_)
      · have hf := ite_t c19 hf
        refine r_iload_n h 0 dX10_range_48 rfl rfl ?_
        refine r_iload_n h 3 dX10_range_49 rfl rfl ?_
        refine r_isub h dX10_range_50 ?_
        exact r_ireturn h hq dX10_range_51 ⟨_, rfl, hf⟩
      · have hf := ite_f c19 hf
        refine r_iconst (v := (-1)) h dX10_range_44 (by decide) ?_
        refine r_goto (tgt := 51) h dX10_range_45 (by decide) ?_
        exact r_ireturn h hq dX10_range_51 ⟨_, rfl, hf⟩
    · have hf := ite_f c15 hf
      refine r_iconst (v := 0) h dX10_range_30 (by decide) ?_
      exact r_ireturn h hq dX10_range_31 ⟨_, rfl, hf⟩
theorem c2256 {l : Launch} {G : gG} {X : gX} {cc : ByteArray} {nL F L bc bs pc : Nat} {M : gM} {lv : List (Nat × Value)} {rest : List Value} {a0 : Nat} {a1 : Int32} {a2 : Int32} {K : Int32 → gM → Prop} (hl : l.stackTraces = false) (h : hX l G X cc nL "GlacierMailLaw" F L) (d : decode cc pc = .ok (.invokevirtual 280, 3)) (hk : kd M a0 = some (.inl 10)) (hf : f_X10_range a0 a1 a2 M K) (hst : (rest.map fun v => v.category).sum ≤ 8) (hF : 8 ≤ F) (hL : 192 ≤ L) (kk : ∀ x M1, K x M1 → V l G X bc bs M1 (pc + 3) lv (.int x :: rest)) : V l G X bc bs M pc lv (.int a2 :: .int a1 :: .ref a0 :: rest) := r_callV (n := 2) (As := [.int a1, .int a2]) h (m_X10_range hl hf) 10 rfl hk rfl ⟨by decide, by decide, by decide +kernel⟩ d q2256 q2257 q2258 q147 q2259 rfl rfl hst hF hL (Nat.zero_le _) (Nat.zero_le _) (kI_go kk) kN_go
def f_X10_swiftest (a0 : Nat) (a1 : Int32) (a2 : Int32) (M : gM) (K : Int32 → gM → Prop) : Prop :=
  ∀ P42 : Nat → Int32 → Int32 → Int32 → Int32 → Int32 → gM → Prop,
  (∀ (v0 : Nat) (v1 : Int32) (v2 : Int32) (v3 : Int32) (v4 : Int32) (v5 : Int32) (M : gM), (kd M v0 = some (.inl 10) ∧ f_X10_lanes v0 M (fun x18 M17 => if x18 ≤ v5 then K v3 M17 else kd M17 v0 = some (.inl 10) ∧ f_X10_outFrom v0 v5 v1 v2 M17 (fun x22 M21 => if x22 < 0 then P42 v0 v1 v2 v3 v4 (v5 + 1) M21 else if x22 < v4 then P42 v0 v1 v2 v5 x22 (v5 + 1) M21 else P42 v0 v1 v2 v3 v4 (v5 + 1) M21))) → P42 v0 v1 v2 v3 v4 v5 M) →
  kd M a0 = some (.inl 10) ∧ ∀ M2, M2 = sI M a0 0 0 → kd M2 a0 = some (.inl 10) ∧ f_X10_noRow a0 a1 M2 (fun x5 M4 => kd M4 a0 = some (.inl 10) ∧ f_X10_throwsIf a0 x5 1 M4 (fun x8 M7 => if x8 = 0 then f_X10_noYear a2 M7 (fun x11 M10 => kd M10 a0 = some (.inl 10) ∧ f_X10_throwsIf a0 x11 2 M10 (fun x14 M13 => if x14 = 0 then P42 a0 a1 a2 (-1) 1000 0 M13 else K 0 M13)) else K 0 M7))
set_option maxHeartbeats 4000000 in
theorem m_X10_swiftest {l : Launch} (hl : l.stackTraces = false) {G : gG} {a0 : Nat} {a1 : Int32} {a2 : Int32} {M : gM} {K : Int32 → gM → Prop} (hf : f_X10_swiftest a0 a1 a2 M K) : gMet l G yX10_swiftest (ws_ yX10_swiftest cX10_swiftest 7 (some Jvm.ClassFile.FieldType.int)) ({ frames := 7, cells := 0, slots := 0, locals := 169 }) M [.ref a0, .int a1, .int a2] (kI K) kN := by
  refine gm_of hl (ret := (some Jvm.ClassFile.FieldType.int)) rfl (Nat.le_of_ble_eq_true rfl) (fun X h hq => ?_)
  have h : hX l G X cX10_swiftest 7 "GlacierMailModel" 7 169 := h
  have hf := hf
  show V l G X 0 0 M 0 [(0, .ref a0), (1, .int a1), (2, .int a2)] []
  have hf := hf
    (fun v0 v1 v2 v3 v4 v5 M => V l G X 0 0 M 42 [(0, .ref v0), (1, .int v1), (2, .int v2), (3, .int v3), (4, .int v4), (5, .int v5)] [])
    (by
      intro v0 v1 v2 v3 v4 v5 M hf
      show V l G X 0 0 M 42 [(0, .ref v0), (1, .int v1), (2, .int v2), (3, .int v3), (4, .int v4), (5, .int v5)] []
      refine r_iload h 5 dX10_swiftest_42 rfl ?_
      refine r_aload_n h 0 dX10_swiftest_44 rfl rfl ?_
      obtain ⟨k16, hf⟩ := hf
      refine c1820 hl h dX10_swiftest_45 k16 hf (Nat.le_of_ble_eq_true rfl) (by decide) (by decide) (fun x18 M17 hf => ?_)
      refine r_icmp_ge (tgt := 89) h dX10_swiftest_48 (by decide) (fun c19 => ?_) (fun c19 => ?_)
      · have hf := ite_t c19 hf
        refine r_iload_n h 3 dX10_swiftest_89 rfl rfl ?_
        exact r_ireturn h hq dX10_swiftest_90 ⟨_, rfl, hf⟩
      · have hf := ite_f c19 hf
        refine r_aload_n h 0 dX10_swiftest_51 rfl rfl ?_
        refine r_iload h 5 dX10_swiftest_52 rfl ?_
        refine r_iload_n h 1 dX10_swiftest_54 rfl rfl ?_
        refine r_iload_n h 2 dX10_swiftest_55 rfl rfl ?_
        obtain ⟨k20, hf⟩ := hf
        refine c2101 hl h dX10_swiftest_56 k20 hf (Nat.le_of_ble_eq_true rfl) (by decide) (by decide) (fun x22 M21 hf => ?_)
        refine r_istore (lv' := [(6, .int x22), (0, .ref v0), (1, .int v1), (2, .int v2), (3, .int v3), (4, .int v4), (5, .int v5)]) h dX10_swiftest_59 (by decide) rfl ?_
        refine r_iload h 0 dX10_swiftest_61 rfl ?_
        refine r_if_lt (tgt := 83) h dX10_swiftest_63 (by decide) (fun c23 => ?_) (fun c23 => ?_)
        · have hf := ite_t c23 hf
          refine r_iinc (v := v5 + 1) (lv' := [(5, .int (v5 + 1)), (6, .int x22), (0, .ref v0), (1, .int v1), (2, .int v2), (3, .int v3), (4, .int v4)]) h 6 dX10_swiftest_83 rfl rfl (by decide) rfl ?_
          refine r_goto (tgt := 42) h dX10_swiftest_86 (by decide) ?_
          exact V.sub [2, 3, 4, 5, 6, 0] rfl hf
        · have hf := ite_f c23 hf
          refine r_iload h 0 dX10_swiftest_66 rfl ?_
          refine r_iload h 5 dX10_swiftest_68 rfl ?_
          refine r_icmp_lt (tgt := 76) h dX10_swiftest_70 (by decide) (fun c24 => ?_) (fun c24 => ?_)
          · have hf := ite_t c24 hf
            refine r_iload h 6 dX10_swiftest_76 rfl ?_
            refine r_istore_n (lv' := [(3, .int v5), (6, .int x22), (0, .ref v0), (1, .int v1), (2, .int v2), (4, .int v4), (5, .int v5)]) h dX10_swiftest_78 rfl (by decide) rfl ?_
            refine r_iload h 1 dX10_swiftest_79 rfl ?_
            refine r_istore (lv' := [(4, .int x22), (3, .int v5), (6, .int x22), (0, .ref v0), (1, .int v1), (2, .int v2), (5, .int v5)]) h dX10_swiftest_81 (by decide) rfl ?_
            refine r_iinc (v := v5 + 1) (lv' := [(5, .int (v5 + 1)), (4, .int x22), (3, .int v5), (6, .int x22), (0, .ref v0), (1, .int v1), (2, .int v2)]) h 6 dX10_swiftest_83 rfl rfl (by decide) rfl ?_
            refine r_goto (tgt := 42) h dX10_swiftest_86 (by decide) ?_
            exact V.sub [4, 5, 6, 2, 1, 0] rfl hf
          · have hf := ite_f c24 hf
            refine r_goto (tgt := 83) h dX10_swiftest_73 (by decide) ?_
            refine r_iinc (v := v5 + 1) (lv' := [(5, .int (v5 + 1)), (6, .int x22), (0, .ref v0), (1, .int v1), (2, .int v2), (3, .int v3), (4, .int v4)]) h 6 dX10_swiftest_83 rfl rfl (by decide) rfl ?_
            refine r_goto (tgt := 42) h dX10_swiftest_86 (by decide) ?_
            exact V.sub [2, 3, 4, 5, 6, 0] rfl hf)
  refine r_aload_n h 0 dX10_swiftest_0 rfl rfl ?_
  refine r_iconst (v := 0) h dX10_swiftest_1 (by decide) ?_
  obtain ⟨k1, hf⟩ := hf
  refine p1597 h dX10_swiftest_2 k1 ?_
  refine r_goW (fun M2 eM2 => ?_)
  have hf := hf M2 eM2
  refine r_aload_n h 0 dX10_swiftest_5 rfl rfl ?_
  refine r_aload_n h 0 dX10_swiftest_6 rfl rfl ?_
  refine r_iload_n h 1 dX10_swiftest_7 rfl rfl ?_
  obtain ⟨k3, hf⟩ := hf
  refine c1955 hl h dX10_swiftest_8 k3 hf (Nat.le_of_ble_eq_true rfl) (by decide) (by decide) (fun x5 M4 hf => ?_)
  refine r_iconst (v := 1) h dX10_swiftest_11 (by decide) ?_
  obtain ⟨k6, hf⟩ := hf
  refine c1929 hl h dX10_swiftest_12 k6 hf (Nat.le_of_ble_eq_true rfl) (by decide) (by decide) (fun x8 M7 hf => ?_)
  refine r_if_ne (tgt := 30) h dX10_swiftest_15 (by decide) (fun c9 => ?_) (fun c9 => ?_)
  · have hf := ite_f c9 hf
    refine r_iconst (v := 0) h dX10_swiftest_30 (by decide) ?_
    exact r_ireturn h hq dX10_swiftest_31 ⟨_, rfl, hf⟩
  · have hf := ite_t c9 hf
    refine r_aload_n h 0 dX10_swiftest_18 rfl rfl ?_
    refine r_iload_n h 2 dX10_swiftest_19 rfl rfl ?_
    refine c1941 hl h dX10_swiftest_20 hf (Nat.le_of_ble_eq_true rfl) (by decide) (by decide) (fun x11 M10 hf => ?_)
    refine r_iconst (v := 2) h dX10_swiftest_23 (by decide) ?_
    obtain ⟨k12, hf⟩ := hf
    refine c1929 hl h dX10_swiftest_24 k12 hf (Nat.le_of_ble_eq_true rfl) (by decide) (by decide) (fun x14 M13 hf => ?_)
    refine r_if_eq (tgt := 32) h dX10_swiftest_27 (by decide) (fun c15 => ?_) (fun c15 => ?_)
    · have hf := ite_t c15 hf
      refine r_iconst (v := (-1)) h dX10_swiftest_32 (by decide) ?_
      refine r_istore_n (lv' := [(3, .int (-1)), (0, .ref a0), (1, .int a1), (2, .int a2)]) h dX10_swiftest_33 rfl (by decide) rfl ?_
      refine r_sipush (v := 1000) h dX10_swiftest_34 (by decide) ?_
      refine r_istore (lv' := [(4, .int 1000), (3, .int (-1)), (0, .ref a0), (1, .int a1), (2, .int a2)]) h dX10_swiftest_37 (by decide) rfl ?_
      refine r_iconst (v := 0) h dX10_swiftest_39 (by decide) ?_
      refine r_istore (lv' := [(5, .int 0), (4, .int 1000), (3, .int (-1)), (0, .ref a0), (1, .int a1), (2, .int a2)]) h dX10_swiftest_40 (by decide) rfl ?_
      exact V.sub [3, 4, 5, 2, 1, 0] rfl hf
    · have hf := ite_f c15 hf
      refine r_iconst (v := 0) h dX10_swiftest_30 (by decide) ?_
      exact r_ireturn h hq dX10_swiftest_31 ⟨_, rfl, hf⟩
theorem c2260 {l : Launch} {G : gG} {X : gX} {cc : ByteArray} {nL F L bc bs pc : Nat} {M : gM} {lv : List (Nat × Value)} {rest : List Value} {a0 : Nat} {a1 : Int32} {a2 : Int32} {K : Int32 → gM → Prop} (hl : l.stackTraces = false) (h : hX l G X cc nL "GlacierMailLaw" F L) (d : decode cc pc = .ok (.invokevirtual 283, 3)) (hk : kd M a0 = some (.inl 10)) (hf : f_X10_swiftest a0 a1 a2 M K) (hst : (rest.map fun v => v.category).sum ≤ 8) (hF : 8 ≤ F) (hL : 195 ≤ L) (kk : ∀ x M1, K x M1 → V l G X bc bs M1 (pc + 3) lv (.int x :: rest)) : V l G X bc bs M pc lv (.int a2 :: .int a1 :: .ref a0 :: rest) := r_callV (n := 2) (As := [.int a1, .int a2]) h (m_X10_swiftest hl hf) 10 rfl hk rfl ⟨by decide, by decide, by decide +kernel⟩ d q2260 q2261 q2262 q147 q2263 rfl rfl hst hF hL (Nat.zero_le _) (Nat.zero_le _) (kI_go kk) kN_go
def f_X10_bare (a0 : Nat) (a1 : Int32) (M : gM) (K : Int32 → gM → Prop) : Prop :=
  ∀ P23 : Nat → Int32 → Int32 → Int32 → gM → Prop,
  (∀ (v0 : Nat) (v1 : Int32) (v2 : Int32) (v3 : Int32) (M : gM), (kd M v0 = some (.inl 10) ∧ f_X10_letters v0 M (fun x11 M10 => if x11 ≤ v3 then K v2 M10 else kd M10 v0 = some (.inl 10) ∧ f_X10_runsLetter v0 v3 (-1) M10 (fun M14 => kd M14 v0 = some (.inl 10) ∧ f_X10_isBare v0 v3 v1 M14 (fun x17 M16 => if x17 = 0 then P23 v0 v1 (v2 ||| 0) (v3 + 1) M16 else P23 v0 v1 (v2 ||| ((1 : Int32) <<< (v3 &&& 31))) (v3 + 1) M16)))) → P23 v0 v1 v2 v3 M) →
  kd M a0 = some (.inl 10) ∧ ∀ M2, M2 = sI M a0 0 0 → f_X10_noYear a1 M2 (fun x4 M3 => kd M3 a0 = some (.inl 10) ∧ f_X10_throwsIf a0 x4 1 M3 (fun x7 M6 => if x7 = 0 then P23 a0 a1 0 0 M6 else K 0 M6))
set_option maxHeartbeats 4000000 in
theorem m_X10_bare {l : Launch} (hl : l.stackTraces = false) {G : gG} {a0 : Nat} {a1 : Int32} {M : gM} {K : Int32 → gM → Prop} (hf : f_X10_bare a0 a1 M K) : gMet l G yX10_bare (ws_ yX10_bare cX10_bare 4 (some Jvm.ClassFile.FieldType.int)) ({ frames := 7, cells := 0, slots := 0, locals := 168 }) M [.ref a0, .int a1] (kI K) kN := by
  refine gm_of hl (ret := (some Jvm.ClassFile.FieldType.int)) rfl (Nat.le_of_ble_eq_true rfl) (fun X h hq => ?_)
  have h : hX l G X cX10_bare 4 "GlacierMailModel" 7 168 := h
  have hf := hf
  show V l G X 0 0 M 0 [(0, .ref a0), (1, .int a1)] []
  have hf := hf
    (fun v0 v1 v2 v3 M => V l G X 0 0 M 23 [(0, .ref v0), (1, .int v1), (2, .int v2), (3, .int v3)] [])
    (by
      intro v0 v1 v2 v3 M hf
      show V l G X 0 0 M 23 [(0, .ref v0), (1, .int v1), (2, .int v2), (3, .int v3)] []
      refine r_iload_n h 3 dX10_bare_23 rfl rfl ?_
      refine r_aload_n h 0 dX10_bare_24 rfl rfl ?_
      obtain ⟨k9, hf⟩ := hf
      refine c1790 hl h dX10_bare_25 k9 hf (Nat.le_of_ble_eq_true rfl) (by decide) (by decide) (fun x11 M10 hf => ?_)
      refine r_icmp_ge (tgt := 62) h dX10_bare_28 (by decide) (fun c12 => ?_) (fun c12 => ?_)
      · have hf := ite_t c12 hf
        refine r_iload_n h 2 dX10_bare_62 rfl rfl ?_
        exact r_ireturn h hq dX10_bare_63 ⟨_, rfl, hf⟩
      · have hf := ite_f c12 hf
        refine r_aload_n h 0 dX10_bare_31 rfl rfl ?_
        refine r_iload_n h 3 dX10_bare_32 rfl rfl ?_
        refine r_iconst (v := (-1)) h dX10_bare_33 (by decide) ?_
        obtain ⟨k13, hf⟩ := hf
        refine c2021 hl h dX10_bare_34 k13 hf (Nat.le_of_ble_eq_true rfl) (by decide) (by decide) (fun M14 hf => ?_)
        refine r_iload_n h 2 dX10_bare_37 rfl rfl ?_
        refine r_aload_n h 0 dX10_bare_38 rfl rfl ?_
        refine r_iload_n h 3 dX10_bare_39 rfl rfl ?_
        refine r_iload_n h 1 dX10_bare_40 rfl rfl ?_
        obtain ⟨k15, hf⟩ := hf
        refine c2045 hl h dX10_bare_41 k15 hf (Nat.le_of_ble_eq_true rfl) (by decide) (by decide) (fun x17 M16 hf => ?_)
        refine r_if_eq (tgt := 53) h dX10_bare_44 (by decide) (fun c18 => ?_) (fun c18 => ?_)
        · have hf := ite_t c18 hf
          refine r_iconst (v := 0) h dX10_bare_53 (by decide) ?_
          refine r_ior h dX10_bare_54 ?_
          refine r_istore_n (lv' := [(2, .int (v2 ||| 0)), (0, .ref v0), (1, .int v1), (3, .int v3)]) h dX10_bare_55 rfl (by decide) rfl ?_
          refine r_iinc (v := v3 + 1) (lv' := [(3, .int (v3 + 1)), (2, .int (v2 ||| 0)), (0, .ref v0), (1, .int v1)]) h 3 dX10_bare_56 rfl rfl (by decide) rfl ?_
          refine r_goto (tgt := 23) h dX10_bare_59 (by decide) ?_
          exact V.sub [2, 3, 1, 0] rfl hf
        · have hf := ite_f c18 hf
          refine r_iconst (v := 1) h dX10_bare_47 (by decide) ?_
          refine r_iload_n h 3 dX10_bare_48 rfl rfl ?_
          refine r_ishl h dX10_bare_49 ?_
          refine r_goto (tgt := 54) h dX10_bare_50 (by decide) ?_
          refine r_ior h dX10_bare_54 ?_
          refine r_istore_n (lv' := [(2, .int (v2 ||| ((1 : Int32) <<< (v3 &&& 31)))), (0, .ref v0), (1, .int v1), (3, .int v3)]) h dX10_bare_55 rfl (by decide) rfl ?_
          refine r_iinc (v := v3 + 1) (lv' := [(3, .int (v3 + 1)), (2, .int (v2 ||| ((1 : Int32) <<< (v3 &&& 31)))), (0, .ref v0), (1, .int v1)]) h 3 dX10_bare_56 rfl rfl (by decide) rfl ?_
          refine r_goto (tgt := 23) h dX10_bare_59 (by decide) ?_
          exact V.sub [2, 3, 1, 0] rfl hf)
  refine r_aload_n h 0 dX10_bare_0 rfl rfl ?_
  refine r_iconst (v := 0) h dX10_bare_1 (by decide) ?_
  obtain ⟨k1, hf⟩ := hf
  refine p1597 h dX10_bare_2 k1 ?_
  refine r_goW (fun M2 eM2 => ?_)
  have hf := hf M2 eM2
  refine r_aload_n h 0 dX10_bare_5 rfl rfl ?_
  refine r_iload_n h 1 dX10_bare_6 rfl rfl ?_
  refine c1941 hl h dX10_bare_7 hf (Nat.le_of_ble_eq_true rfl) (by decide) (by decide) (fun x4 M3 hf => ?_)
  refine r_iconst (v := 1) h dX10_bare_10 (by decide) ?_
  obtain ⟨k5, hf⟩ := hf
  refine c1929 hl h dX10_bare_11 k5 hf (Nat.le_of_ble_eq_true rfl) (by decide) (by decide) (fun x7 M6 hf => ?_)
  refine r_if_eq (tgt := 19) h dX10_bare_14 (by decide) (fun c8 => ?_) (fun c8 => ?_)
  · have hf := ite_t c8 hf
    refine r_iconst (v := 0) h dX10_bare_19 (by decide) ?_
    refine r_istore_n (lv' := [(2, .int 0), (0, .ref a0), (1, .int a1)]) h dX10_bare_20 rfl (by decide) rfl ?_
    refine r_iconst (v := 0) h dX10_bare_21 (by decide) ?_
    refine r_istore_n (lv' := [(3, .int 0), (2, .int 0), (0, .ref a0), (1, .int a1)]) h dX10_bare_22 rfl (by decide) rfl ?_
    exact V.sub [2, 3, 1, 0] rfl hf
  · have hf := ite_f c8 hf
    refine r_iconst (v := 0) h dX10_bare_17 (by decide) ?_
    exact r_ireturn h hq dX10_bare_18 ⟨_, rfl, hf⟩
theorem c2264 {l : Launch} {G : gG} {X : gX} {cc : ByteArray} {nL F L bc bs pc : Nat} {M : gM} {lv : List (Nat × Value)} {rest : List Value} {a0 : Nat} {a1 : Int32} {K : Int32 → gM → Prop} (hl : l.stackTraces = false) (h : hX l G X cc nL "GlacierMailLaw" F L) (d : decode cc pc = .ok (.invokevirtual 286, 3)) (hk : kd M a0 = some (.inl 10)) (hf : f_X10_bare a0 a1 M K) (hst : (rest.map fun v => v.category).sum ≤ 8) (hF : 8 ≤ F) (hL : 191 ≤ L) (kk : ∀ x M1, K x M1 → V l G X bc bs M1 (pc + 3) lv (.int x :: rest)) : V l G X bc bs M pc lv (.int a1 :: .ref a0 :: rest) := r_callV (n := 1) (As := [.int a1]) h (m_X10_bare hl hf) 10 rfl hk rfl ⟨by decide, by decide, by decide +kernel⟩ d q2264 q2265 q2266 q147 q2267 rfl rfl hst hF hL (Nat.zero_le _) (Nat.zero_le _) (kI_go kk) kN_go
def f_X10_log (a0 : Nat) (a1 : Int32) (a2 : Int32) (M : gM) (K : Int32 → gM → Prop) : Prop :=
  ∀ P20 : Nat → Int32 → Int32 → Int32 → Nat → gM → Prop,
  (∀ (v0 : Nat) (v1 : Int32) (v2 : Int32) (s0 : Int32) (s1 : Nat) (M : gM), (kd M s1 = some (.inl 10) ∧ f_X10_throwsIf s1 s0 1 M (fun x8 M7 => if x8 = 0 then kd M7 v0 = some (.inl 10) ∧ ∃ b11, rv M7 v0 1 = some b11 ∧ inA M7 b11 0 14 ∧ f_X10_in v1 0 ((iv M7 b11 (ix 14)) - 1) M7 (fun x15 M14 => if x15 = 0 then K (-1) M14 else kd M14 v0 = some (.inl 10) ∧ ∃ b18, rv M14 v0 1 = some b18 ∧ inA M14 b18 0 (((323 : Int32) + ((3 : Int32) * v1)) + v2) ∧ K (iv M14 b18 (ix (((323 : Int32) + ((3 : Int32) * v1)) + v2))) M14) else K 0 M7)) → P20 v0 v1 v2 s0 s1 M) →
  kd M a0 = some (.inl 10) ∧ ∀ M2, M2 = sI M a0 0 0 → f_X10_in a2 0 2 M2 (fun x4 M3 => if x4 = 0 then P20 a0 a1 a2 1 a0 M3 else P20 a0 a1 a2 0 a0 M3)
set_option maxHeartbeats 4000000 in
theorem m_X10_log {l : Launch} (hl : l.stackTraces = false) {G : gG} {a0 : Nat} {a1 : Int32} {a2 : Int32} {M : gM} {K : Int32 → gM → Prop} (hf : f_X10_log a0 a1 a2 M K) : gMet l G yX10_log (ws_ yX10_log cX10_log 3 (some Jvm.ClassFile.FieldType.int)) ({ frames := 1, cells := 0, slots := 0, locals := 22 }) M [.ref a0, .int a1, .int a2] (kI K) kN := by
  refine gm_of hl (ret := (some Jvm.ClassFile.FieldType.int)) rfl (Nat.le_of_ble_eq_true rfl) (fun X h hq => ?_)
  have h : hX l G X cX10_log 3 "GlacierMailModel" 1 22 := h
  have hf := hf
  show V l G X 0 0 M 0 [(0, .ref a0), (1, .int a1), (2, .int a2)] []
  have hf := hf
    (fun v0 v1 v2 s0 s1 M => V l G X 0 0 M 20 [(0, .ref v0), (1, .int v1), (2, .int v2)] [.int s0, .ref s1])
    (by
      intro v0 v1 v2 s0 s1 M hf
      show V l G X 0 0 M 20 [(0, .ref v0), (1, .int v1), (2, .int v2)] [.int s0, .ref s1]
      refine r_iconst (v := 1) h dX10_log_20 (by decide) ?_
      obtain ⟨k6, hf⟩ := hf
      refine c1929 hl h dX10_log_21 k6 hf (Nat.le_of_ble_eq_true rfl) (by decide) (by decide) (fun x8 M7 hf => ?_)
      refine r_if_eq (tgt := 29) h dX10_log_24 (by decide) (fun c9 => ?_) (fun c9 => ?_)
      · have hf := ite_t c9 hf
        refine r_iload_n h 1 dX10_log_29 rfl rfl ?_
        refine r_iconst (v := 0) h dX10_log_30 (by decide) ?_
        refine r_aload_n h 0 dX10_log_31 rfl rfl ?_
        obtain ⟨k10, hf⟩ := hf
        obtain ⟨b11, e12, hf⟩ := hf
        refine g1598 h dX10_log_32 k10 e12 ?_
        refine r_bipush (v := 14) h dX10_log_35 (by decide) ?_
        obtain ⟨j13, hf⟩ := hf
        refine r_iaload h dX10_log_37 j13 ?_
        refine r_iconst (v := 1) h dX10_log_38 (by decide) ?_
        refine r_isub h dX10_log_39 ?_
        refine c1944 hl h dX10_log_40 hf (Nat.le_of_ble_eq_true rfl) (by decide) (by decide) (fun x15 M14 hf => ?_)
        refine r_if_eq (tgt := 63) h dX10_log_43 (by decide) (fun c16 => ?_) (fun c16 => ?_)
        · have hf := ite_t c16 hf
          refine r_iconst (v := (-1)) h dX10_log_63 (by decide) ?_
          exact r_ireturn h hq dX10_log_64 ⟨_, rfl, hf⟩
        · have hf := ite_f c16 hf
          refine r_aload_n h 0 dX10_log_46 rfl rfl ?_
          obtain ⟨k17, hf⟩ := hf
          obtain ⟨b18, e19, hf⟩ := hf
          refine g1598 h dX10_log_47 k17 e19 ?_
          refine r_sipush (v := 323) h dX10_log_50 (by decide) ?_
          refine r_iconst (v := 3) h dX10_log_53 (by decide) ?_
          refine r_iload_n h 1 dX10_log_54 rfl rfl ?_
          refine r_imul h dX10_log_55 ?_
          refine r_iadd h dX10_log_56 ?_
          refine r_iload_n h 2 dX10_log_57 rfl rfl ?_
          refine r_iadd h dX10_log_58 ?_
          obtain ⟨j20, hf⟩ := hf
          refine r_iaload h dX10_log_59 j20 ?_
          refine r_goto (tgt := 64) h dX10_log_60 (by decide) ?_
          exact r_ireturn h hq dX10_log_64 ⟨_, rfl, hf⟩
      · have hf := ite_f c9 hf
        refine r_iconst (v := 0) h dX10_log_27 (by decide) ?_
        exact r_ireturn h hq dX10_log_28 ⟨_, rfl, hf⟩)
  refine r_aload_n h 0 dX10_log_0 rfl rfl ?_
  refine r_iconst (v := 0) h dX10_log_1 (by decide) ?_
  obtain ⟨k1, hf⟩ := hf
  refine p1597 h dX10_log_2 k1 ?_
  refine r_goW (fun M2 eM2 => ?_)
  have hf := hf M2 eM2
  refine r_aload_n h 0 dX10_log_5 rfl rfl ?_
  refine r_iload_n h 2 dX10_log_6 rfl rfl ?_
  refine r_iconst (v := 0) h dX10_log_7 (by decide) ?_
  refine r_iconst (v := 2) h dX10_log_8 (by decide) ?_
  refine c1944 hl h dX10_log_9 hf (Nat.le_of_ble_eq_true rfl) (by decide) (by decide) (fun x4 M3 hf => ?_)
  refine r_if_ne (tgt := 19) h dX10_log_12 (by decide) (fun c5 => ?_) (fun c5 => ?_)
  · have hf := ite_f c5 hf
    refine r_iconst (v := 0) h dX10_log_19 (by decide) ?_
    exact V.sub [0, 1, 2] rfl hf
  · have hf := ite_t c5 hf
    refine r_iconst (v := 1) h dX10_log_15 (by decide) ?_
    refine r_goto (tgt := 20) h dX10_log_16 (by decide) ?_
    exact V.sub [0, 1, 2] rfl hf
theorem c2268 {l : Launch} {G : gG} {X : gX} {cc : ByteArray} {nL F L bc bs pc : Nat} {M : gM} {lv : List (Nat × Value)} {rest : List Value} {a0 : Nat} {a1 : Int32} {a2 : Int32} {K : Int32 → gM → Prop} (hl : l.stackTraces = false) (h : hX l G X cc nL "GlacierMailLaw" F L) (d : decode cc pc = .ok (.invokevirtual 289, 3)) (hk : kd M a0 = some (.inl 10)) (hf : f_X10_log a0 a1 a2 M K) (hst : (rest.map fun v => v.category).sum ≤ 8) (hF : 2 ≤ F) (hL : 44 ≤ L) (kk : ∀ x M1, K x M1 → V l G X bc bs M1 (pc + 3) lv (.int x :: rest)) : V l G X bc bs M pc lv (.int a2 :: .int a1 :: .ref a0 :: rest) := r_callV (n := 2) (As := [.int a1, .int a2]) h (m_X10_log hl hf) 10 rfl hk rfl ⟨by decide, by decide, by decide +kernel⟩ d q2268 q2269 q2270 q147 q2271 rfl rfl hst hF hL (Nat.zero_le _) (Nat.zero_le _) (kI_go kk) kN_go
def f_X10_count (a0 : Nat) (a1 : Int32) (M : gM) (K : Int32 → gM → Prop) : Prop :=
  ∀ P98 : Nat → Int32 → Int32 → gM → Prop,
  ∀ P132 : Nat → Int32 → Int32 → gM → Prop,
  (∀ (v0 : Nat) (v2 : Int32) (v3 : Int32) (M : gM), (kd M v0 = some (.inl 10) ∧ f_X10_letters v0 M (fun x70 M69 => if x70 ≤ v3 then K v2 M69 else kd M69 v0 = some (.inl 10) ∧ f_X10_isWaiting v0 v3 M69 (fun x74 M73 => if x74 = 0 then P98 v0 (v2 + 0) (v3 + 1) M73 else P98 v0 (v2 + 1) (v3 + 1) M73))) → P98 v0 v2 v3 M) →
  (∀ (v0 : Nat) (v2 : Int32) (v3 : Int32) (M : gM), (kd M v0 = some (.inl 10) ∧ f_X10_letters v0 M (fun x78 M77 => if x78 ≤ v3 then K v2 M77 else kd M77 v0 = some (.inl 10) ∧ f_X10_outOf v0 v3 M77 (fun x82 M81 => if x82 < 0 then P132 v0 (v2 + 1) (v3 + 1) M81 else kd M81 v0 = some (.inl 10) ∧ f_X10_now v0 M81 (fun x86 M85 => if x82 ≤ x86 then P132 v0 (v2 + 0) (v3 + 1) M85 else P132 v0 (v2 + 1) (v3 + 1) M85)))) → P132 v0 v2 v3 M) →
  kd M a0 = some (.inl 10) ∧ ∀ M2, M2 = sI M a0 0 0 → if a1 = 8 then kd M2 a0 = some (.inl 10) ∧ ∃ b5, rv M2 a0 1 = some b5 ∧ inA M2 b5 0 8 ∧ if (iv M2 b5 (ix 8)) = 1 then ∃ b9, rv M2 a0 1 = some b9 ∧ inA M2 b9 0 395 ∧ K (iv M2 b9 (ix 395)) M2 else K (-1) M2 else if a1 = 9 then f_X10_in a1 0 13 M2 (fun x14 M13 => if x14 = 0 then K (-1) M13 else kd M13 a0 = some (.inl 10) ∧ ∃ b17, rv M13 a0 1 = some b17 ∧ inA M13 b17 0 a1 ∧ K (iv M13 b17 (ix a1)) M13) else if a1 = 10 then f_X10_in a1 0 13 M2 (fun x22 M21 => if x22 = 0 then K (-1) M21 else kd M21 a0 = some (.inl 10) ∧ ∃ b25, rv M21 a0 1 = some b25 ∧ inA M21 b25 0 a1 ∧ K (iv M21 b25 (ix a1)) M21) else if a1 = 11 then f_X10_in a1 0 13 M2 (fun x30 M29 => if x30 = 0 then K (-1) M29 else kd M29 a0 = some (.inl 10) ∧ ∃ b33, rv M29 a0 1 = some b33 ∧ inA M29 b33 0 a1 ∧ K (iv M29 b33 (ix a1)) M29) else if a1 = 12 then f_X10_in a1 0 13 M2 (fun x38 M37 => if x38 = 0 then K (-1) M37 else kd M37 a0 = some (.inl 10) ∧ ∃ b41, rv M37 a0 1 = some b41 ∧ inA M37 b41 0 a1 ∧ K (iv M37 b41 (ix a1)) M37) else if a1 = 13 then f_X10_in a1 0 13 M2 (fun x46 M45 => if x46 = 0 then K (-1) M45 else kd M45 a0 = some (.inl 10) ∧ ∃ b49, rv M45 a0 1 = some b49 ∧ inA M45 b49 0 a1 ∧ K (iv M45 b49 (ix a1)) M45) else if a1 = 14 then kd M2 a0 = some (.inl 10) ∧ ∃ b54, rv M2 a0 1 = some b54 ∧ inA M2 b54 0 14 ∧ K (iv M2 b54 (ix 14)) M2 else if a1 = 15 then P98 a0 0 0 M2 else if a1 = 16 then P132 a0 0 0 M2 else if a1 = 17 then kd M2 a0 = some (.inl 10) ∧ K (iv M2 a0 6) M2 else f_X10_in a1 0 13 M2 (fun x62 M61 => if x62 = 0 then K (-1) M61 else kd M61 a0 = some (.inl 10) ∧ ∃ b65, rv M61 a0 1 = some b65 ∧ inA M61 b65 0 a1 ∧ K (iv M61 b65 (ix a1)) M61)
set_option maxHeartbeats 4000000 in
theorem m_X10_count {l : Launch} (hl : l.stackTraces = false) {G : gG} {a0 : Nat} {a1 : Int32} {M : gM} {K : Int32 → gM → Prop} (hf : f_X10_count a0 a1 M K) : gMet l G yX10_count (ws_ yX10_count cX10_count 5 (some Jvm.ClassFile.FieldType.int)) ({ frames := 9, cells := 0, slots := 0, locals := 211 }) M [.ref a0, .int a1] (kI K) kN := by
  refine gm_of hl (ret := (some Jvm.ClassFile.FieldType.int)) rfl (Nat.le_of_ble_eq_true rfl) (fun X h hq => ?_)
  have h : hX l G X cX10_count 5 "GlacierMailModel" 9 211 := h
  have hf := hf
  show V l G X 0 0 M 0 [(0, .ref a0), (1, .int a1)] []
  have hf := hf
    (fun v0 v2 v3 M => V l G X 0 0 M 98 [(0, .ref v0), (2, .int v2), (3, .int v3)] [])
    (fun v0 v2 v3 M => V l G X 0 0 M 132 [(0, .ref v0), (2, .int v2), (3, .int v3)] [])
    (by
      intro v0 v2 v3 M hf
      show V l G X 0 0 M 98 [(0, .ref v0), (2, .int v2), (3, .int v3)] []
      refine r_iload_n h 2 dX10_count_98 rfl rfl ?_
      refine r_aload_n h 0 dX10_count_99 rfl rfl ?_
      obtain ⟨k68, hf⟩ := hf
      refine c1790 hl h dX10_count_100 k68 hf (Nat.le_of_ble_eq_true rfl) (by decide) (by decide) (fun x70 M69 hf => ?_)
      refine r_icmp_ge (tgt := 128) h dX10_count_103 (by decide) (fun c71 => ?_) (fun c71 => ?_)
      · have hf := ite_t c71 hf
        refine r_iload_n h 1 dX10_count_128 rfl rfl ?_
        exact r_ireturn h hq dX10_count_129 ⟨_, rfl, hf⟩
      · have hf := ite_f c71 hf
        refine r_iload_n h 1 dX10_count_106 rfl rfl ?_
        refine r_aload_n h 0 dX10_count_107 rfl rfl ?_
        refine r_iload_n h 2 dX10_count_108 rfl rfl ?_
        obtain ⟨k72, hf⟩ := hf
        refine c2009 hl h dX10_count_109 k72 hf (Nat.le_of_ble_eq_true rfl) (by decide) (by decide) (fun x74 M73 hf => ?_)
        refine r_if_eq (tgt := 119) h dX10_count_112 (by decide) (fun c75 => ?_) (fun c75 => ?_)
        · have hf := ite_t c75 hf
          refine r_iconst (v := 0) h dX10_count_119 (by decide) ?_
          refine r_iadd h dX10_count_120 ?_
          refine r_istore_n (lv' := [(2, .int (v2 + 0)), (0, .ref v0), (3, .int v3)]) h dX10_count_121 rfl (by decide) rfl ?_
          refine r_iinc (v := v3 + 1) (lv' := [(3, .int (v3 + 1)), (2, .int (v2 + 0)), (0, .ref v0)]) h 2 dX10_count_122 rfl rfl (by decide) rfl ?_
          refine r_goto (tgt := 98) h dX10_count_125 (by decide) ?_
          exact V.sub [2, 1, 0] rfl hf
        · have hf := ite_f c75 hf
          refine r_iconst (v := 1) h dX10_count_115 (by decide) ?_
          refine r_goto (tgt := 120) h dX10_count_116 (by decide) ?_
          refine r_iadd h dX10_count_120 ?_
          refine r_istore_n (lv' := [(2, .int (v2 + 1)), (0, .ref v0), (3, .int v3)]) h dX10_count_121 rfl (by decide) rfl ?_
          refine r_iinc (v := v3 + 1) (lv' := [(3, .int (v3 + 1)), (2, .int (v2 + 1)), (0, .ref v0)]) h 2 dX10_count_122 rfl rfl (by decide) rfl ?_
          refine r_goto (tgt := 98) h dX10_count_125 (by decide) ?_
          exact V.sub [2, 1, 0] rfl hf)
    (by
      intro v0 v2 v3 M hf
      show V l G X 0 0 M 132 [(0, .ref v0), (2, .int v2), (3, .int v3)] []
      refine r_iload_n h 2 dX10_count_132 rfl rfl ?_
      refine r_aload_n h 0 dX10_count_133 rfl rfl ?_
      obtain ⟨k76, hf⟩ := hf
      refine c1790 hl h dX10_count_134 k76 hf (Nat.le_of_ble_eq_true rfl) (by decide) (by decide) (fun x78 M77 hf => ?_)
      refine r_icmp_ge (tgt := 175) h dX10_count_137 (by decide) (fun c79 => ?_) (fun c79 => ?_)
      · have hf := ite_t c79 hf
        refine r_iload_n h 1 dX10_count_175 rfl rfl ?_
        exact r_ireturn h hq dX10_count_176 ⟨_, rfl, hf⟩
      · have hf := ite_f c79 hf
        refine r_aload_n h 0 dX10_count_140 rfl rfl ?_
        refine r_iload_n h 2 dX10_count_141 rfl rfl ?_
        obtain ⟨k80, hf⟩ := hf
        refine c2017 hl h dX10_count_142 k80 hf (Nat.le_of_ble_eq_true rfl) (by decide) (by decide) (fun x82 M81 hf => ?_)
        refine r_istore (lv' := [(4, .int x82), (0, .ref v0), (2, .int v2), (3, .int v3)]) h dX10_count_145 (by decide) rfl ?_
        refine r_iload_n h 2 dX10_count_147 rfl rfl ?_
        refine r_iload h 0 dX10_count_148 rfl ?_
        refine r_if_lt (tgt := 162) h dX10_count_150 (by decide) (fun c83 => ?_) (fun c83 => ?_)
        · have hf := ite_t c83 hf
          refine r_iconst (v := 1) h dX10_count_162 (by decide) ?_
          refine r_goto (tgt := 167) h dX10_count_163 (by decide) ?_
          refine r_iadd h dX10_count_167 ?_
          refine r_istore_n (lv' := [(2, .int (v2 + 1)), (4, .int x82), (0, .ref v0), (3, .int v3)]) h dX10_count_168 rfl (by decide) rfl ?_
          refine r_iinc (v := v3 + 1) (lv' := [(3, .int (v3 + 1)), (2, .int (v2 + 1)), (4, .int x82), (0, .ref v0)]) h 3 dX10_count_169 rfl rfl (by decide) rfl ?_
          refine r_goto (tgt := 132) h dX10_count_172 (by decide) ?_
          exact V.sub [3, 1, 0] rfl hf
        · have hf := ite_f c83 hf
          refine r_iload h 0 dX10_count_153 rfl ?_
          refine r_aload_n h 1 dX10_count_155 rfl rfl ?_
          obtain ⟨k84, hf⟩ := hf
          refine c1843 hl h dX10_count_156 k84 hf (Nat.le_of_ble_eq_true rfl) (by decide) (by decide) (fun x86 M85 hf => ?_)
          refine r_icmp_le (tgt := 166) h dX10_count_159 (by decide) (fun c87 => ?_) (fun c87 => ?_)
          · have hf := ite_t c87 hf
            refine r_iconst (v := 0) h dX10_count_166 (by decide) ?_
            refine r_iadd h dX10_count_167 ?_
            refine r_istore_n (lv' := [(2, .int (v2 + 0)), (4, .int x82), (0, .ref v0), (3, .int v3)]) h dX10_count_168 rfl (by decide) rfl ?_
            refine r_iinc (v := v3 + 1) (lv' := [(3, .int (v3 + 1)), (2, .int (v2 + 0)), (4, .int x82), (0, .ref v0)]) h 3 dX10_count_169 rfl rfl (by decide) rfl ?_
            refine r_goto (tgt := 132) h dX10_count_172 (by decide) ?_
            exact V.sub [3, 1, 0] rfl hf
          · have hf := ite_f c87 hf
            refine r_iconst (v := 1) h dX10_count_162 (by decide) ?_
            refine r_goto (tgt := 167) h dX10_count_163 (by decide) ?_
            refine r_iadd h dX10_count_167 ?_
            refine r_istore_n (lv' := [(2, .int (v2 + 1)), (4, .int x82), (0, .ref v0), (3, .int v3)]) h dX10_count_168 rfl (by decide) rfl ?_
            refine r_iinc (v := v3 + 1) (lv' := [(3, .int (v3 + 1)), (2, .int (v2 + 1)), (4, .int x82), (0, .ref v0)]) h 3 dX10_count_169 rfl rfl (by decide) rfl ?_
            refine r_goto (tgt := 132) h dX10_count_172 (by decide) ?_
            exact V.sub [3, 1, 0] rfl hf)
  refine r_aload_n h 0 dX10_count_0 rfl rfl ?_
  refine r_iconst (v := 0) h dX10_count_1 (by decide) ?_
  obtain ⟨k1, hf⟩ := hf
  refine p1597 h dX10_count_2 k1 ?_
  refine r_goW (fun M2 eM2 => ?_)
  have hf := hf M2 eM2
  refine r_iconst (v := 0) h dX10_count_5 (by decide) ?_
  refine r_istore_n (lv' := [(2, .int 0), (0, .ref a0), (1, .int a1)]) h dX10_count_6 rfl (by decide) rfl ?_
  refine r_iload_n h 2 dX10_count_7 rfl rfl ?_
  by_cases c3 : a1 = 8
  · have hf := ite_t c3 hf
    refine r_tableIn (off := 56) (tgt := 64) h dX10_count_8 (by rw [c3]; decide) (by rw [c3]; decide) (by rw [c3]; rfl) (by decide) ?_
    refine r_aload_n h 1 dX10_count_64 rfl rfl ?_
    obtain ⟨k4, hf⟩ := hf
    obtain ⟨b5, e6, hf⟩ := hf
    refine g1598 h dX10_count_65 k4 e6 ?_
    refine r_bipush (v := 8) h dX10_count_68 (by decide) ?_
    obtain ⟨j7, hf⟩ := hf
    refine r_iaload h dX10_count_70 j7 ?_
    refine r_iconst (v := 1) h dX10_count_71 (by decide) ?_
    refine r_icmp_ne (tgt := 86) h dX10_count_72 (by decide) (fun c8 => ?_) (fun c8 => ?_)
    · have hf := ite_f c8 hf
      refine r_iconst (v := (-1)) h dX10_count_86 (by decide) ?_
      exact r_ireturn h hq dX10_count_87 ⟨_, rfl, hf⟩
    · have hf := ite_t c8 hf
      refine r_aload_n h 1 dX10_count_75 rfl rfl ?_
      obtain ⟨b9, e10, hf⟩ := hf
      refine g1598 h dX10_count_76 k4 e10 ?_
      refine r_sipush (v := 395) h dX10_count_79 (by decide) ?_
      obtain ⟨j11, hf⟩ := hf
      refine r_iaload h dX10_count_82 j11 ?_
      refine r_goto (tgt := 87) h dX10_count_83 (by decide) ?_
      exact r_ireturn h hq dX10_count_87 ⟨_, rfl, hf⟩
  have hf := ite_f c3 hf
  by_cases c12 : a1 = 9
  · have hf := ite_t c12 hf
    refine r_tableIn (off := 174) (tgt := 182) h dX10_count_8 (by rw [c12]; decide) (by rw [c12]; decide) (by rw [c12]; rfl) (by decide) ?_
    refine r_iload_n h 2 dX10_count_182 rfl rfl ?_
    refine r_iconst (v := 0) h dX10_count_183 (by decide) ?_
    refine r_bipush (v := 13) h dX10_count_184 (by decide) ?_
    refine c1944 hl h dX10_count_186 hf (Nat.le_of_ble_eq_true rfl) (by decide) (by decide) (fun x14 M13 hf => ?_)
    refine r_if_eq (tgt := 201) h dX10_count_189 (by decide) (fun c15 => ?_) (fun c15 => ?_)
    · have hf := ite_t c15 hf
      refine r_iconst (v := (-1)) h dX10_count_201 (by decide) ?_
      exact r_ireturn h hq dX10_count_202 ⟨_, rfl, hf⟩
    · have hf := ite_f c15 hf
      refine r_aload_n h 1 dX10_count_192 rfl rfl ?_
      obtain ⟨k16, hf⟩ := hf
      obtain ⟨b17, e18, hf⟩ := hf
      refine g1598 h dX10_count_193 k16 e18 ?_
      refine r_iload_n h 2 dX10_count_196 rfl rfl ?_
      obtain ⟨j19, hf⟩ := hf
      refine r_iaload h dX10_count_197 j19 ?_
      refine r_goto (tgt := 202) h dX10_count_198 (by decide) ?_
      exact r_ireturn h hq dX10_count_202 ⟨_, rfl, hf⟩
  have hf := ite_f c12 hf
  by_cases c20 : a1 = 10
  · have hf := ite_t c20 hf
    refine r_tableIn (off := 174) (tgt := 182) h dX10_count_8 (by rw [c20]; decide) (by rw [c20]; decide) (by rw [c20]; rfl) (by decide) ?_
    refine r_iload_n h 2 dX10_count_182 rfl rfl ?_
    refine r_iconst (v := 0) h dX10_count_183 (by decide) ?_
    refine r_bipush (v := 13) h dX10_count_184 (by decide) ?_
    refine c1944 hl h dX10_count_186 hf (Nat.le_of_ble_eq_true rfl) (by decide) (by decide) (fun x22 M21 hf => ?_)
    refine r_if_eq (tgt := 201) h dX10_count_189 (by decide) (fun c23 => ?_) (fun c23 => ?_)
    · have hf := ite_t c23 hf
      refine r_iconst (v := (-1)) h dX10_count_201 (by decide) ?_
      exact r_ireturn h hq dX10_count_202 ⟨_, rfl, hf⟩
    · have hf := ite_f c23 hf
      refine r_aload_n h 1 dX10_count_192 rfl rfl ?_
      obtain ⟨k24, hf⟩ := hf
      obtain ⟨b25, e26, hf⟩ := hf
      refine g1598 h dX10_count_193 k24 e26 ?_
      refine r_iload_n h 2 dX10_count_196 rfl rfl ?_
      obtain ⟨j27, hf⟩ := hf
      refine r_iaload h dX10_count_197 j27 ?_
      refine r_goto (tgt := 202) h dX10_count_198 (by decide) ?_
      exact r_ireturn h hq dX10_count_202 ⟨_, rfl, hf⟩
  have hf := ite_f c20 hf
  by_cases c28 : a1 = 11
  · have hf := ite_t c28 hf
    refine r_tableIn (off := 174) (tgt := 182) h dX10_count_8 (by rw [c28]; decide) (by rw [c28]; decide) (by rw [c28]; rfl) (by decide) ?_
    refine r_iload_n h 2 dX10_count_182 rfl rfl ?_
    refine r_iconst (v := 0) h dX10_count_183 (by decide) ?_
    refine r_bipush (v := 13) h dX10_count_184 (by decide) ?_
    refine c1944 hl h dX10_count_186 hf (Nat.le_of_ble_eq_true rfl) (by decide) (by decide) (fun x30 M29 hf => ?_)
    refine r_if_eq (tgt := 201) h dX10_count_189 (by decide) (fun c31 => ?_) (fun c31 => ?_)
    · have hf := ite_t c31 hf
      refine r_iconst (v := (-1)) h dX10_count_201 (by decide) ?_
      exact r_ireturn h hq dX10_count_202 ⟨_, rfl, hf⟩
    · have hf := ite_f c31 hf
      refine r_aload_n h 1 dX10_count_192 rfl rfl ?_
      obtain ⟨k32, hf⟩ := hf
      obtain ⟨b33, e34, hf⟩ := hf
      refine g1598 h dX10_count_193 k32 e34 ?_
      refine r_iload_n h 2 dX10_count_196 rfl rfl ?_
      obtain ⟨j35, hf⟩ := hf
      refine r_iaload h dX10_count_197 j35 ?_
      refine r_goto (tgt := 202) h dX10_count_198 (by decide) ?_
      exact r_ireturn h hq dX10_count_202 ⟨_, rfl, hf⟩
  have hf := ite_f c28 hf
  by_cases c36 : a1 = 12
  · have hf := ite_t c36 hf
    refine r_tableIn (off := 174) (tgt := 182) h dX10_count_8 (by rw [c36]; decide) (by rw [c36]; decide) (by rw [c36]; rfl) (by decide) ?_
    refine r_iload_n h 2 dX10_count_182 rfl rfl ?_
    refine r_iconst (v := 0) h dX10_count_183 (by decide) ?_
    refine r_bipush (v := 13) h dX10_count_184 (by decide) ?_
    refine c1944 hl h dX10_count_186 hf (Nat.le_of_ble_eq_true rfl) (by decide) (by decide) (fun x38 M37 hf => ?_)
    refine r_if_eq (tgt := 201) h dX10_count_189 (by decide) (fun c39 => ?_) (fun c39 => ?_)
    · have hf := ite_t c39 hf
      refine r_iconst (v := (-1)) h dX10_count_201 (by decide) ?_
      exact r_ireturn h hq dX10_count_202 ⟨_, rfl, hf⟩
    · have hf := ite_f c39 hf
      refine r_aload_n h 1 dX10_count_192 rfl rfl ?_
      obtain ⟨k40, hf⟩ := hf
      obtain ⟨b41, e42, hf⟩ := hf
      refine g1598 h dX10_count_193 k40 e42 ?_
      refine r_iload_n h 2 dX10_count_196 rfl rfl ?_
      obtain ⟨j43, hf⟩ := hf
      refine r_iaload h dX10_count_197 j43 ?_
      refine r_goto (tgt := 202) h dX10_count_198 (by decide) ?_
      exact r_ireturn h hq dX10_count_202 ⟨_, rfl, hf⟩
  have hf := ite_f c36 hf
  by_cases c44 : a1 = 13
  · have hf := ite_t c44 hf
    refine r_tableIn (off := 174) (tgt := 182) h dX10_count_8 (by rw [c44]; decide) (by rw [c44]; decide) (by rw [c44]; rfl) (by decide) ?_
    refine r_iload_n h 2 dX10_count_182 rfl rfl ?_
    refine r_iconst (v := 0) h dX10_count_183 (by decide) ?_
    refine r_bipush (v := 13) h dX10_count_184 (by decide) ?_
    refine c1944 hl h dX10_count_186 hf (Nat.le_of_ble_eq_true rfl) (by decide) (by decide) (fun x46 M45 hf => ?_)
    refine r_if_eq (tgt := 201) h dX10_count_189 (by decide) (fun c47 => ?_) (fun c47 => ?_)
    · have hf := ite_t c47 hf
      refine r_iconst (v := (-1)) h dX10_count_201 (by decide) ?_
      exact r_ireturn h hq dX10_count_202 ⟨_, rfl, hf⟩
    · have hf := ite_f c47 hf
      refine r_aload_n h 1 dX10_count_192 rfl rfl ?_
      obtain ⟨k48, hf⟩ := hf
      obtain ⟨b49, e50, hf⟩ := hf
      refine g1598 h dX10_count_193 k48 e50 ?_
      refine r_iload_n h 2 dX10_count_196 rfl rfl ?_
      obtain ⟨j51, hf⟩ := hf
      refine r_iaload h dX10_count_197 j51 ?_
      refine r_goto (tgt := 202) h dX10_count_198 (by decide) ?_
      exact r_ireturn h hq dX10_count_202 ⟨_, rfl, hf⟩
  have hf := ite_f c44 hf
  by_cases c52 : a1 = 14
  · have hf := ite_t c52 hf
    refine r_tableIn (off := 80) (tgt := 88) h dX10_count_8 (by rw [c52]; decide) (by rw [c52]; decide) (by rw [c52]; rfl) (by decide) ?_
    refine r_aload_n h 1 dX10_count_88 rfl rfl ?_
    obtain ⟨k53, hf⟩ := hf
    obtain ⟨b54, e55, hf⟩ := hf
    refine g1598 h dX10_count_89 k53 e55 ?_
    refine r_bipush (v := 14) h dX10_count_92 (by decide) ?_
    obtain ⟨j56, hf⟩ := hf
    refine r_iaload h dX10_count_94 j56 ?_
    exact r_ireturn h hq dX10_count_95 ⟨_, rfl, hf⟩
  have hf := ite_f c52 hf
  by_cases c57 : a1 = 15
  · have hf := ite_t c57 hf
    refine r_tableIn (off := 88) (tgt := 96) h dX10_count_8 (by rw [c57]; decide) (by rw [c57]; decide) (by rw [c57]; rfl) (by decide) ?_
    refine r_iconst (v := 0) h dX10_count_96 (by decide) ?_
    refine r_istore_n (lv' := [(3, .int 0), (2, .int 0), (0, .ref a0), (1, .int a1)]) h dX10_count_97 rfl (by decide) rfl ?_
    exact V.sub [2, 1, 0] rfl hf
  have hf := ite_f c57 hf
  by_cases c58 : a1 = 16
  · have hf := ite_t c58 hf
    refine r_tableIn (off := 122) (tgt := 130) h dX10_count_8 (by rw [c58]; decide) (by rw [c58]; decide) (by rw [c58]; rfl) (by decide) ?_
    refine r_iconst (v := 0) h dX10_count_130 (by decide) ?_
    refine r_istore_n (lv' := [(3, .int 0), (2, .int 0), (0, .ref a0), (1, .int a1)]) h dX10_count_131 rfl (by decide) rfl ?_
    exact V.sub [2, 1, 0] rfl hf
  have hf := ite_f c58 hf
  by_cases c59 : a1 = 17
  · have hf := ite_t c59 hf
    refine r_tableIn (off := 169) (tgt := 177) h dX10_count_8 (by rw [c59]; decide) (by rw [c59]; decide) (by rw [c59]; rfl) (by decide) ?_
    refine r_aload_n h 1 dX10_count_177 rfl rfl ?_
    obtain ⟨k60, hf⟩ := hf
    refine g1603 h dX10_count_178 k60 ?_
    exact r_ireturn h hq dX10_count_181 ⟨_, rfl, hf⟩
  have hf := ite_f c59 hf
  refine r_tableOut (tgt := 182) h dX10_count_8 (gSw8_10 c3 c12 c20 c28 c36 c44 c52 c57 c58 c59) (by decide) ?_
  refine r_iload_n h 2 dX10_count_182 rfl rfl ?_
  refine r_iconst (v := 0) h dX10_count_183 (by decide) ?_
  refine r_bipush (v := 13) h dX10_count_184 (by decide) ?_
  refine c1944 hl h dX10_count_186 hf (Nat.le_of_ble_eq_true rfl) (by decide) (by decide) (fun x62 M61 hf => ?_)
  refine r_if_eq (tgt := 201) h dX10_count_189 (by decide) (fun c63 => ?_) (fun c63 => ?_)
  · have hf := ite_t c63 hf
    refine r_iconst (v := (-1)) h dX10_count_201 (by decide) ?_
    exact r_ireturn h hq dX10_count_202 ⟨_, rfl, hf⟩
  · have hf := ite_f c63 hf
    refine r_aload_n h 1 dX10_count_192 rfl rfl ?_
    obtain ⟨k64, hf⟩ := hf
    obtain ⟨b65, e66, hf⟩ := hf
    refine g1598 h dX10_count_193 k64 e66 ?_
    refine r_iload_n h 2 dX10_count_196 rfl rfl ?_
    obtain ⟨j67, hf⟩ := hf
    refine r_iaload h dX10_count_197 j67 ?_
    refine r_goto (tgt := 202) h dX10_count_198 (by decide) ?_
    exact r_ireturn h hq dX10_count_202 ⟨_, rfl, hf⟩
theorem c2272 {l : Launch} {G : gG} {X : gX} {cc : ByteArray} {nL F L bc bs pc : Nat} {M : gM} {lv : List (Nat × Value)} {rest : List Value} {a0 : Nat} {a1 : Int32} {K : Int32 → gM → Prop} (hl : l.stackTraces = false) (h : hX l G X cc nL "GlacierMailLaw" F L) (d : decode cc pc = .ok (.invokevirtual 306, 3)) (hk : kd M a0 = some (.inl 10)) (hf : f_X10_count a0 a1 M K) (hst : (rest.map fun v => v.category).sum ≤ 8) (hF : 10 ≤ F) (hL : 235 ≤ L) (kk : ∀ x M1, K x M1 → V l G X bc bs M1 (pc + 3) lv (.int x :: rest)) : V l G X bc bs M pc lv (.int a1 :: .ref a0 :: rest) := r_callV (n := 1) (As := [.int a1]) h (m_X10_count hl hf) 10 rfl hk rfl ⟨by decide, by decide, by decide +kernel⟩ d q2272 q2273 q2274 q147 q2275 rfl rfl hst hF hL (Nat.zero_le _) (Nat.zero_le _) (kI_go kk) kN_go
