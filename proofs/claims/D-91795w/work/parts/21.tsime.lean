set_option maxRecDepth 100000
set_option maxHeartbeats 4000000
section
variable {p : Program} {l : Launch} {e : Env} {R : Room} {s : State} {m : MethodId} {args : Array Value} {below : List Frame} {meth : Method} {c : Code} {A : Nat → Prop} {D : va_G} {ck : Nat → ClassId} {ad sa : Nat → Nat} {lv : Nat}
theorem jm_bendsAt_d : yX6_bendsAt.cls = RX6 ∧ yX6_bendsAt.cls ≠ "java/lang/invoke/MethodHandle" ∧ yX6_bendsAt.cls ≠ "java/lang/invoke/VarHandle" ∧ (parseMethodDescriptor yX6_bendsAt.desc).map (fun d => d.parameters.length) = some 3 := by decide +kernel
theorem jm_bendsAt_g : GoodIn lw_all (wsV RX6 392 RX6 yX6_bendsAt (ws_ yX6_bendsAt cX6_bendsAt 7 none)) := lw_V q2045 q2047 qs93 q110 q2048
theorem jm_bendsAt_b166_ok {out : jm_S} (hX : jm_Ok p R s m args meth c A D ck ad sa cX6_bendsAt 7 none 3) (F : Nat) (x1 : Int32) (x5 : Int32) (x6 : Int32) (S : jm_S) (h : jm_bendsAt_b166 F x1 x5 x6 S = some out) : jm_J p l e R s m args below meth c A D ck ad 7 (jm_Qv below args s A D ck ad sa out) 166 [(0, .ref (ad 0)), (1, .int x1), (5, .int x5), (6, .int x6)] [] S := by
  intro H locs ls hP hD hS hl
  have hX0 := hX
  obtain ⟨hx, hb, hml, hown, hts, hlk, hr, hlv, hK, hZ⟩ := hX0
  unfold jm_bendsAt_b166 at h
  refine lv_iload hx hb dX6_bendsAt_166 (lv_at hl 2 rfl) ?_
  refine lv_bipush hx hb dX6_bendsAt_168 jx_kb7 ?_
  refine lv_icmp_ne (tgt := 201) hx hb dX6_bendsAt_170 rfl (fun c1 => ?_) (fun c1 => ?_)
  · rw [if_neg c1] at h
    exact jm_vret hx hb hr hlk hK hZ hP hD hS h dX6_bendsAt_201
  · rw [if_pos c1] at h
    refine lv_aload_n hx hb dX6_bendsAt_173 rfl (lv_at hl 0 rfl) ?_
    refine lv_iload_n hx hb dX6_bendsAt_174 rfl (lv_at hl 1 rfl) ?_
    obtain ⟨q2, eq2, h⟩ := jx_bi_some h
    refine jm_callI hx hb hml hown hts hlv hK hZ (jm_bendsRow_met eq2) jm_bendsRow_g jm_bendsRow_d (As := [.int x1]) (Nat.le_of_ble_eq_true rfl) (Nat.le_of_ble_eq_true rfl) hP hD hS hl.1 rfl rfl (lv_room (Nat.le_of_ble_eq_true rfl)) dX6_bendsAt_175 (fun H locs hP hD hS => ?_)
    refine lv_if_eq (tgt := 201) hx hb dX6_bendsAt_178 rfl (fun c3 => ?_) (fun c3 => ?_)
    · rw [if_pos c3] at h
      exact jm_vret hx hb hr hlk hK hZ hP hD hS h dX6_bendsAt_201
    · rw [if_neg c3] at h
      refine lv_aload_n hx hb dX6_bendsAt_181 rfl (lv_at hl 0 rfl) ?_
      refine jm_get hx hb hts hown hK hP jm_f21 (by decide) jm_g21 dX6_bendsAt_182 ?_
      refine lv_if_le (tgt := 201) hx hb dX6_bendsAt_185 rfl (fun c4 => ?_) (fun c4 => ?_)
      · rw [if_pos c4] at h
        exact jm_vret hx hb hr hlk hK hZ hP hD hS h dX6_bendsAt_201
      · rw [if_neg c4] at h
        refine lv_aload_n hx hb dX6_bendsAt_188 rfl (lv_at hl 0 rfl) ?_
        refine jm_get hx hb hts hown hK hP jm_f18 (by decide) jm_g18 dX6_bendsAt_189 ?_
        refine lv_aload_n hx hb dX6_bendsAt_192 rfl (lv_at hl 0 rfl) ?_
        refine jm_get hx hb hts hown hK hP jm_f21 (by decide) jm_g21 dX6_bendsAt_193 ?_
        refine lv_iconst hx hb dX6_bendsAt_196 jx_ki1 ?_
        refine lv_isub hx hb dX6_bendsAt_197 ?_
        refine lv_iload hx hb dX6_bendsAt_198 (lv_at hl 3 rfl) ?_
        obtain ⟨j5, ej5, bj5, h⟩ := jx_ga_some h
        obtain ⟨S6, eS6, h⟩ := jx_nx_some h
        refine jm_iast hx hb hK hP hD hS jm_a18 (fun f => jm_u18 f) ej5 bj5 eS6 dX6_bendsAt_200 (fun H locs hP hD hS => ?_)
        exact jm_vret hx hb hr hlk hK hZ hP hD hS h dX6_bendsAt_201
theorem jm_bendsAt_b137_ok {out : jm_S} (hX : jm_Ok p R s m args meth c A D ck ad sa cX6_bendsAt 7 none 3) (F : Nat) (x1 : Int32) (x4 : Int32) (x5 : Int32) (x6 : Int32) (S : jm_S) (h : jm_bendsAt_b137 F x1 x4 x5 x6 S = some out) : jm_J p l e R s m args below meth c A D ck ad 7 (jm_Qv below args s A D ck ad sa out) 137 [(0, .ref (ad 0)), (1, .int x1), (4, .int x4), (5, .int x5), (6, .int x6)] [] S := by
  intro H locs ls hP hD hS hl
  have hX0 := hX
  obtain ⟨hx, hb, hml, hown, hts, hlk, hr, hlv, hK, hZ⟩ := hX0
  unfold jm_bendsAt_b137 at h
  refine lv_aload_n hx hb dX6_bendsAt_137 rfl (lv_at hl 0 rfl) ?_
  refine lv_iload_n hx hb dX6_bendsAt_138 rfl (lv_at hl 1 rfl) ?_
  refine lv_aload_n hx hb dX6_bendsAt_139 rfl (lv_at hl 0 rfl) ?_
  refine lv_iload hx hb dX6_bendsAt_140 (lv_at hl 2 rfl) ?_
  refine lv_iconst hx hb dX6_bendsAt_142 jx_ki5 ?_
  obtain ⟨q1, eq1, h⟩ := jx_bi_some h
  refine jm_callI hx hb hml hown hts hlv hK hZ (jm_of_met eq1) jm_of_g jm_of_d (As := [.int x4, .int (nI 5)]) (Nat.le_of_ble_eq_true rfl) (Nat.le_of_ble_eq_true rfl) hP hD hS hl.1 rfl rfl (lv_room (Nat.le_of_ble_eq_true rfl)) dX6_bendsAt_143 (fun H locs hP hD hS => ?_)
  obtain ⟨q2, eq2, h⟩ := jx_bi_some h
  refine jm_callI hx hb hml hown hts hlv hK hZ (jm_bendsCell_met eq2) jm_bendsCell_g jm_bendsCell_d (As := [.int x1, .int q1.1]) (Nat.le_of_ble_eq_true rfl) (Nat.le_of_ble_eq_true rfl) hP hD hS hl.1 rfl rfl (lv_room (Nat.le_of_ble_eq_true rfl)) dX6_bendsAt_146 (fun H locs hP hD hS => ?_)
  refine lv_if_eq (tgt := 166) hx hb dX6_bendsAt_149 rfl (fun c3 => ?_) (fun c3 => ?_)
  · rw [if_pos c3] at h
    exact jm_bendsAt_b166_ok hX F _ _ _ _ h _ _ _ hP hD hS (lv_sub hl [0, 1, 3, 4] rfl)
  · rw [if_neg c3] at h
    refine lv_aload_n hx hb dX6_bendsAt_152 rfl (lv_at hl 0 rfl) ?_
    refine jm_get hx hb hts hown hK hP jm_f16 (by decide) jm_g16 dX6_bendsAt_153 ?_
    refine lv_aload_n hx hb dX6_bendsAt_156 rfl (lv_at hl 0 rfl) ?_
    refine lv_iload hx hb dX6_bendsAt_157 (lv_at hl 2 rfl) ?_
    refine lv_iconst hx hb dX6_bendsAt_159 jx_ki5 ?_
    obtain ⟨q4, eq4, h⟩ := jx_bi_some h
    refine jm_callI hx hb hml hown hts hlv hK hZ (jm_of_met eq4) jm_of_g jm_of_d (As := [.int x4, .int (nI 5)]) (Nat.le_of_ble_eq_true rfl) (Nat.le_of_ble_eq_true rfl) hP hD hS hl.1 rfl rfl (lv_room (Nat.le_of_ble_eq_true rfl)) dX6_bendsAt_160 (fun H locs hP hD hS => ?_)
    refine lv_iload hx hb dX6_bendsAt_163 (lv_at hl 4 rfl) ?_
    obtain ⟨j5, ej5, bj5, h⟩ := jx_ga_some h
    obtain ⟨S6, eS6, h⟩ := jx_nx_some h
    refine jm_iast hx hb hK hP hD hS jm_a16 (fun f => jm_u16 f) ej5 bj5 eS6 dX6_bendsAt_165 (fun H locs hP hD hS => ?_)
    exact jm_bendsAt_b166_ok hX F _ _ _ _ h _ _ _ hP hD hS (lv_sub hl [0, 1, 3, 4] rfl)
theorem jm_bendsAt_b124_ok {out : jm_S} (hX : jm_Ok p R s m args meth c A D ck ad sa cX6_bendsAt 7 none 3) (F : Nat) (x1 : Int32) (x4 : Int32) (x5 : Int32) (x6 : Int32) (S : jm_S) (h : jm_bendsAt_b124 F x1 x4 x5 x6 S = some out) : jm_J p l e R s m args below meth c A D ck ad 7 (jm_Qv below args s A D ck ad sa out) 124 [(0, .ref (ad 0)), (1, .int x1), (4, .int x4), (5, .int x5), (6, .int x6)] [] S := by
  intro H locs ls hP hD hS hl
  have hX0 := hX
  obtain ⟨hx, hb, hml, hown, hts, hlk, hr, hlv, hK, hZ⟩ := hX0
  unfold jm_bendsAt_b124 at h
  refine lv_iload hx hb dX6_bendsAt_124 (lv_at hl 3 rfl) ?_
  refine lv_iconst hx hb dX6_bendsAt_126 jx_ki4 ?_
  refine lv_icmp_eq (tgt := 137) hx hb dX6_bendsAt_127 rfl (fun c1 => ?_) (fun c1 => ?_)
  · rw [if_pos c1] at h
    exact jm_bendsAt_b137_ok hX F _ _ _ _ _ h _ _ _ hP hD hS hl
  · rw [if_neg c1] at h
    refine lv_iload hx hb dX6_bendsAt_130 (lv_at hl 3 rfl) ?_
    refine lv_bipush hx hb dX6_bendsAt_132 jx_kb6 ?_
    refine lv_icmp_ne (tgt := 166) hx hb dX6_bendsAt_134 rfl (fun c2 => ?_) (fun c2 => ?_)
    · rw [if_neg c2] at h
      exact jm_bendsAt_b166_ok hX F _ _ _ _ h _ _ _ hP hD hS (lv_sub hl [0, 1, 3, 4] rfl)
    · rw [if_pos c2] at h
      exact jm_bendsAt_b137_ok hX F _ _ _ _ _ h _ _ _ hP hD hS hl
theorem jm_bendsAt_b121_ok {out : jm_S} (hX : jm_Ok p R s m args meth c A D ck ad sa cX6_bendsAt 7 none 3) (F : Nat) (x1 : Int32) (x4 : Int32) (x5 : Int32) (x6 : Int32) (k0 : Int32) (k1 : Int32) (k2 : Int32) (S : jm_S) (h : jm_bendsAt_b121 F x1 x4 x5 x6 k0 k1 k2 S = some out) : jm_J p l e R s m args below meth c A D ck ad 7 (jm_Qv below args s A D ck ad sa out) 121 [(0, .ref (ad 0)), (1, .int x1), (4, .int x4), (5, .int x5), (6, .int x6)] [.int k0, .int k1, .int k2, .ref (ad 0)] S := by
  intro H locs ls hP hD hS hl
  have hX0 := hX
  obtain ⟨hx, hb, hml, hown, hts, hlk, hr, hlv, hK, hZ⟩ := hX0
  unfold jm_bendsAt_b121 at h
  obtain ⟨q1, eq1, h⟩ := jx_bi_some h
  refine jm_callV hx hb hml hown hts hlv hK hZ (jm_bendsIf_met eq1) jm_bendsIf_g jm_bendsIf_d (As := [.int k2, .int k1, .int k0]) (Nat.le_of_ble_eq_true rfl) (Nat.le_of_ble_eq_true rfl) hP hD hS hl.1 rfl rfl (lv_room (Nat.le_of_ble_eq_true rfl)) dX6_bendsAt_121 (fun H locs hP hD hS => ?_)
  exact jm_bendsAt_b124_ok hX F _ _ _ _ _ h _ _ _ hP hD hS hl
theorem jm_bendsAt_ok {out : jm_S} (hX : jm_Ok p R s m args meth c A D ck ad sa cX6_bendsAt 7 none 3) (F : Nat) (x1 : Int32) (x2 : Int32) (x3 : Int32) (S : jm_S) (h : jm_bendsAt F x1 x2 x3 S = some out) : jm_J p l e R s m args below meth c A D ck ad 7 (jm_Qv below args s A D ck ad sa out) 0 [(0, .ref (ad 0)), (1, .int x1), (2, .int x2), (3, .int x3)] [] S := by
  intro H locs ls hP hD hS hl
  have hX0 := hX
  obtain ⟨hx, hb, hml, hown, hts, hlk, hr, hlv, hK, hZ⟩ := hX0
  unfold jm_bendsAt at h
  refine lv_aload_n hx hb dX6_bendsAt_0 rfl (lv_at hl 0 rfl) ?_
  refine jm_get hx hb hts hown hK hP jm_f36 (by decide) jm_g36 dX6_bendsAt_1 ?_
  refine lv_iload_n hx hb dX6_bendsAt_4 rfl (lv_at hl 2 rfl) ?_
  obtain ⟨j1, ej1, bj1, h⟩ := jx_ga_some h
  refine jm_iald hx hb hK hP jm_a36 ej1 bj1 dX6_bendsAt_5 ?_
  obtain ⟨y2, ey2, h⟩ := jx_nx_some h
  refine jx_topi ey2 ?_
  refine lv_istore (lv' := [(4, .int y2), (0, .ref (ad 0)), (1, .int x1), (2, .int x2), (3, .int x3)]) hx hb dX6_bendsAt_6 hl (Nat.le_of_ble_eq_true rfl) rfl (fun ls hl => ?_)
  refine lv_aload_n hx hb dX6_bendsAt_8 rfl (lv_at hl 1 rfl) ?_
  refine lv_iload hx hb dX6_bendsAt_9 (lv_at hl 0 rfl) ?_
  obtain ⟨q3, eq3, h⟩ := jx_bi_some h
  refine jm_callI hx hb hml hown hts hlv hK hZ (jm_wordOf_met eq3) jm_wordOf_g jm_wordOf_d (As := [.int y2]) (Nat.le_of_ble_eq_true rfl) (Nat.le_of_ble_eq_true rfl) hP hD hS hl.1 rfl rfl (lv_room (Nat.le_of_ble_eq_true rfl)) dX6_bendsAt_11 (fun H locs hP hD hS => ?_)
  obtain ⟨y4, ey4, h⟩ := jx_nx_some h
  refine jx_topi ey4 ?_
  refine lv_istore (lv' := [(5, .int y4), (4, .int y2), (0, .ref (ad 0)), (1, .int x1), (2, .int x2), (3, .int x3)]) hx hb dX6_bendsAt_14 hl (Nat.le_of_ble_eq_true rfl) rfl (fun ls hl => ?_)
  refine lv_iload_n hx hb dX6_bendsAt_16 rfl (lv_at hl 4 rfl) ?_
  refine lv_aload_n hx hb dX6_bendsAt_17 rfl (lv_at hl 2 rfl) ?_
  refine jm_get hx hb hts hown hK hP jm_f38 (by decide) jm_g38 dX6_bendsAt_18 ?_
  refine lv_iconst hx hb dX6_bendsAt_21 jx_ki1 ?_
  refine lv_isub hx hb dX6_bendsAt_22 ?_
  refine lv_icmp_ne (tgt := 70) hx hb dX6_bendsAt_23 rfl (fun c5 => ?_) (fun c5 => ?_)
  · rw [if_neg c5] at h
    refine lv_aload_n hx hb dX6_bendsAt_70 rfl (lv_at hl 2 rfl) ?_
    refine jm_get hx hb hts hown hK hP jm_f36 (by decide) jm_g36 dX6_bendsAt_71 ?_
    refine lv_iload_n hx hb dX6_bendsAt_74 rfl (lv_at hl 4 rfl) ?_
    refine lv_iconst hx hb dX6_bendsAt_75 jx_ki1 ?_
    refine lv_iadd hx hb dX6_bendsAt_76 ?_
    obtain ⟨j6, ej6, bj6, h⟩ := jx_ga_some h
    refine jm_iald hx hb hK hP jm_a36 ej6 bj6 dX6_bendsAt_77 ?_
    obtain ⟨y7, ey7, h⟩ := jx_nx_some h
    refine jx_topi ey7 ?_
    refine lv_istore (lv' := [(6, .int y7), (5, .int y4), (4, .int y2), (0, .ref (ad 0)), (1, .int x1), (2, .int x2), (3, .int x3)]) hx hb dX6_bendsAt_78 hl (Nat.le_of_ble_eq_true rfl) rfl (fun ls hl => ?_)
    refine lv_iload hx hb dX6_bendsAt_80 (lv_at hl 1 rfl) ?_
    refine lv_iconst hx hb dX6_bendsAt_82 jx_ki3 ?_
    refine lv_icmp_ne (tgt := 124) hx hb dX6_bendsAt_83 rfl (fun c8 => ?_) (fun c8 => ?_)
    · rw [if_neg c8] at h
      exact jm_bendsAt_b124_ok hX F _ _ _ _ _ h _ _ _ hP hD hS (lv_sub hl [3, 4, 2, 1, 0] rfl)
    · rw [if_pos c8] at h
      refine lv_aload_n hx hb dX6_bendsAt_86 rfl (lv_at hl 3 rfl) ?_
      refine lv_iload hx hb dX6_bendsAt_87 (lv_at hl 2 rfl) ?_
      refine lv_iconst hx hb dX6_bendsAt_89 jx_ki4 ?_
      obtain ⟨q9, eq9, h⟩ := jx_bi_some h
      refine jm_callI hx hb hml hown hts hlv hK hZ (jm_of_met eq9) jm_of_g jm_of_d (As := [.int y2, .int (nI 4)]) (Nat.le_of_ble_eq_true rfl) (Nat.le_of_ble_eq_true rfl) hP hD hS hl.1 rfl rfl (lv_room (Nat.le_of_ble_eq_true rfl)) dX6_bendsAt_90 (fun H locs hP hD hS => ?_)
      refine lv_iload hx hb dX6_bendsAt_93 (lv_at hl 2 rfl) ?_
      refine lv_iconst hx hb dX6_bendsAt_95 jx_ki1 ?_
      refine lv_iadd hx hb dX6_bendsAt_96 ?_
      refine lv_icmp_eq (tgt := 124) hx hb dX6_bendsAt_97 rfl (fun c10 => ?_) (fun c10 => ?_)
      · rw [if_pos c10] at h
        exact jm_bendsAt_b124_ok hX F _ _ _ _ _ h _ _ _ hP hD hS (lv_sub hl [3, 4, 2, 1, 0] rfl)
      · rw [if_neg c10] at h
        refine lv_aload_n hx hb dX6_bendsAt_100 rfl (lv_at hl 3 rfl) ?_
        refine lv_iload_n hx hb dX6_bendsAt_101 rfl (lv_at hl 4 rfl) ?_
        refine lv_iload hx hb dX6_bendsAt_102 (lv_at hl 2 rfl) ?_
        refine lv_iload hx hb dX6_bendsAt_104 (lv_at hl 0 rfl) ?_
        refine lv_aload_n hx hb dX6_bendsAt_106 rfl (lv_at hl 3 rfl) ?_
        refine lv_iload hx hb dX6_bendsAt_107 (lv_at hl 2 rfl) ?_
        refine lv_iconst hx hb dX6_bendsAt_109 jx_ki4 ?_
        obtain ⟨q11, eq11, h⟩ := jx_bi_some h
        refine jm_callI hx hb hml hown hts hlv hK hZ (jm_of_met eq11) jm_of_g jm_of_d (As := [.int y2, .int (nI 4)]) (Nat.le_of_ble_eq_true rfl) (Nat.le_of_ble_eq_true rfl) hP hD hS hl.1 rfl rfl (lv_room (Nat.le_of_ble_eq_true rfl)) dX6_bendsAt_110 (fun H locs hP hD hS => ?_)
        refine lv_icmp_ne (tgt := 120) hx hb dX6_bendsAt_113 rfl (fun c12 => ?_) (fun c12 => ?_)
        · rw [if_neg c12] at h
          refine lv_iconst hx hb dX6_bendsAt_120 jx_ki0 ?_
          exact jm_bendsAt_b121_ok hX F _ _ _ _ _ _ _ _ h _ _ _ hP hD hS (lv_sub hl [3, 4, 2, 1, 0] rfl)
        · rw [if_pos c12] at h
          refine lv_iconst hx hb dX6_bendsAt_116 jx_ki1 ?_
          refine lv_goto (tgt := 121) hx hb dX6_bendsAt_117 rfl ?_
          exact jm_bendsAt_b121_ok hX F _ _ _ _ _ _ _ _ h _ _ _ hP hD hS (lv_sub hl [3, 4, 2, 1, 0] rfl)
  · rw [if_pos c5] at h
    refine lv_aload_n hx hb dX6_bendsAt_26 rfl (lv_at hl 2 rfl) ?_
    refine lv_iload_n hx hb dX6_bendsAt_27 rfl (lv_at hl 3 rfl) ?_
    refine lv_aload_n hx hb dX6_bendsAt_28 rfl (lv_at hl 2 rfl) ?_
    refine lv_iload hx hb dX6_bendsAt_29 (lv_at hl 1 rfl) ?_
    refine lv_bipush hx hb dX6_bendsAt_31 jx_kb6 ?_
    obtain ⟨q13, eq13, h⟩ := jx_bi_some h
    refine jm_callI hx hb hml hown hts hlv hK hZ (jm_of_met eq13) jm_of_g jm_of_d (As := [.int y2, .int (nI 6)]) (Nat.le_of_ble_eq_true rfl) (Nat.le_of_ble_eq_true rfl) hP hD hS hl.1 rfl rfl (lv_room (Nat.le_of_ble_eq_true rfl)) dX6_bendsAt_33 (fun H locs hP hD hS => ?_)
    obtain ⟨q14, eq14, h⟩ := jx_bi_some h
    refine jm_callI hx hb hml hown hts hlv hK hZ (jm_bendsAtom_met eq14) jm_bendsAtom_g jm_bendsAtom_d (As := [.int x1, .int q13.1]) (Nat.le_of_ble_eq_true rfl) (Nat.le_of_ble_eq_true rfl) hP hD hS hl.1 rfl rfl (lv_room (Nat.le_of_ble_eq_true rfl)) dX6_bendsAt_36 (fun H locs hP hD hS => ?_)
    refine lv_if_eq (tgt := 69) hx hb dX6_bendsAt_39 rfl (fun c15 => ?_) (fun c15 => ?_)
    · rw [if_pos c15] at h
      exact jm_vret hx hb hr hlk hK hZ hP hD hS h dX6_bendsAt_69
    · rw [if_neg c15] at h
      refine lv_aload_n hx hb dX6_bendsAt_42 rfl (lv_at hl 2 rfl) ?_
      refine jm_get hx hb hts hown hK hP jm_f16 (by decide) jm_g16 dX6_bendsAt_43 ?_
      refine lv_aload_n hx hb dX6_bendsAt_46 rfl (lv_at hl 2 rfl) ?_
      refine lv_iload hx hb dX6_bendsAt_47 (lv_at hl 1 rfl) ?_
      refine lv_bipush hx hb dX6_bendsAt_49 jx_kb6 ?_
      obtain ⟨q16, eq16, h⟩ := jx_bi_some h
      refine jm_callI hx hb hml hown hts hlv hK hZ (jm_of_met eq16) jm_of_g jm_of_d (As := [.int y2, .int (nI 6)]) (Nat.le_of_ble_eq_true rfl) (Nat.le_of_ble_eq_true rfl) hP hD hS hl.1 rfl rfl (lv_room (Nat.le_of_ble_eq_true rfl)) dX6_bendsAt_51 (fun H locs hP hD hS => ?_)
      refine lv_sipush hx hb dX6_bendsAt_54 jx_ks1000 ?_
      refine lv_isub hx hb dX6_bendsAt_57 ?_
      refine lv_aload_n hx hb dX6_bendsAt_58 rfl (lv_at hl 2 rfl) ?_
      refine jm_get hx hb hts hown hK hP jm_f1 (by decide) jm_g1 dX6_bendsAt_59 ?_
      refine lv_sipush hx hb dX6_bendsAt_62 jx_ks404 ?_
      refine lv_iload_n hx hb dX6_bendsAt_65 rfl (lv_at hl 5 rfl) ?_
      refine lv_iadd hx hb dX6_bendsAt_66 ?_
      obtain ⟨j17, ej17, bj17, h⟩ := jx_ga_some h
      refine jm_iald hx hb hK hP jm_a1 ej17 bj17 dX6_bendsAt_67 ?_
      obtain ⟨j18, ej18, bj18, h⟩ := jx_ga_some h
      obtain ⟨S19, eS19, h⟩ := jx_nx_some h
      refine jm_iast hx hb hK hP hD hS jm_a16 (fun f => jm_u16 f) ej18 bj18 eS19 dX6_bendsAt_68 (fun H locs hP hD hS => ?_)
      exact jm_vret hx hb hr hlk hK hZ hP hD hS h dX6_bendsAt_69
theorem jm_bendsAt_met {l : Launch} {D : va_G} {ck : Nat → ClassId} {ad sa : Nat → Nat} {A : Nat → Prop} {F : Nat} {x1 : Int32} {x2 : Int32} {x3 : Int32} {S : jm_S} {out : jm_S} (h : jm_bendsAt F x1 x2 x3 S = some out) : jm_Mv l D ck ad sa A yX6_bendsAt cX6_bendsAt 7 none 3 [.int x1, .int x2, .int x3] S out :=
  jm_Mv_of ⟨by decide, rfl, Nat.le_of_ble_eq_true rfl⟩ (fun hX => jm_bendsAt_ok hX F x1 x2 x3 S h)
theorem jm_isTried_d : yX6_isTried.cls = RX6 ∧ yX6_isTried.cls ≠ "java/lang/invoke/MethodHandle" ∧ yX6_isTried.cls ≠ "java/lang/invoke/VarHandle" ∧ (parseMethodDescriptor yX6_isTried.desc).map (fun d => d.parameters.length) = some 2 := by decide +kernel
theorem jm_isTried_g : GoodIn lw_all (wsV RX6 399 RX6 yX6_isTried (ws_ yX6_isTried cX6_isTried 5 (some .boolean))) := lw_V q2041 q2043 qs92 q110 q2044
theorem jm_isTried_b127_ok {out : Int32 × jm_S} (hX : jm_Ok p R s m args meth c A D ck ad sa cX6_isTried 5 (some .boolean) 4) (F : Nat) {r6 : Int32 × Int32 × Int32 × jm_S → Option (Int32 × jm_S)} (hr6 : ∀ a, r6 a = some out → jm_J p l e R s m args below meth c A D ck ad 5 (jm_Qi below args s A D ck ad sa out) 6 [(0, .ref (ad 0)), (1, .int a.1), (2, .int a.2.1), (3, .int a.2.2.1)] [] a.2.2.2) (x1 : Int32) (x2 : Int32) (x3 : Int32) (x4 : Int32) (S : jm_S) (h : jm_isTried_b127 F r6 x1 x2 x3 x4 S = some out) : jm_J p l e R s m args below meth c A D ck ad 5 (jm_Qi below args s A D ck ad sa out) 127 [(0, .ref (ad 0)), (1, .int x1), (2, .int x2), (3, .int x3), (4, .int x4)] [] S := by
  intro H locs ls hP hD hS hl
  have hX0 := hX
  obtain ⟨hx, hb, hml, hown, hts, hlk, hr, hlv, hK, hZ⟩ := hX0
  unfold jm_isTried_b127 at h
  refine lv_aload_n hx hb dX6_isTried_127 rfl (lv_at hl 0 rfl) ?_
  refine lv_iload hx hb dX6_isTried_128 (lv_at hl 4 rfl) ?_
  obtain ⟨q1, eq1, h⟩ := jx_bi_some h
  refine jm_callI hx hb hml hown hts hlv hK hZ (jm_does_met eq1) jm_does_g jm_does_d (As := [.int x4]) (Nat.le_of_ble_eq_true rfl) (Nat.le_of_ble_eq_true rfl) hP hD hS hl.1 rfl rfl (lv_room (Nat.le_of_ble_eq_true rfl)) dX6_isTried_130 (fun H locs hP hD hS => ?_)
  refine lv_aload_n hx hb dX6_isTried_133 rfl (lv_at hl 0 rfl) ?_
  refine jm_get hx hb hts hown hK hP jm_f36 (by decide) jm_g36 dX6_isTried_134 ?_
  refine lv_iload_n hx hb dX6_isTried_137 rfl (lv_at hl 3 rfl) ?_
  refine lv_iconst hx hb dX6_isTried_138 jx_ki1 ?_
  refine lv_iadd hx hb dX6_isTried_139 ?_
  obtain ⟨j2, ej2, bj2, h⟩ := jx_ga_some h
  refine jm_iald hx hb hK hP jm_a36 ej2 bj2 dX6_isTried_140 ?_
  refine lv_icmp_eq (tgt := 146) hx hb dX6_isTried_141 rfl (fun c3 => ?_) (fun c3 => ?_)
  · rw [if_pos c3] at h
    obtain ⟨y4, ey4, h⟩ := jx_nx_some h
    refine lv_iinc (v := y4) (lv' := [(3, .int y4), (0, .ref (ad 0)), (1, .int x1), (2, .int x2), (4, .int x4)]) hx hb dX6_isTried_146 hl (k := 3) rfl (jx_inc jx_ki1 ey4) (Nat.le_of_ble_eq_true rfl) rfl (fun ls hl => ?_)
    refine lv_goto (tgt := 6) hx hb dX6_isTried_149 rfl ?_
    exact hr6 _ h _ _ _ hP hD hS (lv_sub hl [1, 2, 3, 0] rfl)
  · rw [if_neg c3] at h
    refine lv_iconst hx hb dX6_isTried_144 jx_ki0 ?_
    exact jm_zret hx hb hr hlk hK hZ hP hD hS jx_nz0 h dX6_isTried_145
theorem jm_isTried_L6_ok {out : Int32 × jm_S} (hX : jm_Ok p R s m args meth c A D ck ad sa cX6_isTried 5 (some .boolean) 4) (F : Nat) {r6 : Int32 × Int32 × Int32 × jm_S → Option (Int32 × jm_S)} (hr6 : ∀ a, r6 a = some out → jm_J p l e R s m args below meth c A D ck ad 5 (jm_Qi below args s A D ck ad sa out) 6 [(0, .ref (ad 0)), (1, .int a.1), (2, .int a.2.1), (3, .int a.2.2.1)] [] a.2.2.2) (x1 : Int32) (x2 : Int32) (x3 : Int32) (S : jm_S) (h : jm_isTried_L6 F r6 x1 x2 x3 S = some out) : jm_J p l e R s m args below meth c A D ck ad 5 (jm_Qi below args s A D ck ad sa out) 6 [(0, .ref (ad 0)), (1, .int x1), (2, .int x2), (3, .int x3)] [] S := by
  intro H locs ls hP hD hS hl
  have hX0 := hX
  obtain ⟨hx, hb, hml, hown, hts, hlk, hr, hlv, hK, hZ⟩ := hX0
  unfold jm_isTried_L6 at h
  refine lv_iload_n hx hb dX6_isTried_6 rfl (lv_at hl 3 rfl) ?_
  refine lv_aload_n hx hb dX6_isTried_7 rfl (lv_at hl 0 rfl) ?_
  refine jm_get hx hb hts hown hK hP jm_f38 (by decide) jm_g38 dX6_isTried_8 ?_
  refine lv_icmp_ge (tgt := 152) hx hb dX6_isTried_11 rfl (fun c1 => ?_) (fun c1 => ?_)
  · rw [if_pos c1] at h
    refine lv_iconst hx hb dX6_isTried_152 jx_ki0 ?_
    exact jm_zret hx hb hr hlk hK hZ hP hD hS jx_nz0 h dX6_isTried_153
  · rw [if_neg c1] at h
    refine lv_aload_n hx hb dX6_isTried_14 rfl (lv_at hl 0 rfl) ?_
    refine jm_get hx hb hts hown hK hP jm_f36 (by decide) jm_g36 dX6_isTried_15 ?_
    refine lv_iload_n hx hb dX6_isTried_18 rfl (lv_at hl 3 rfl) ?_
    obtain ⟨j2, ej2, bj2, h⟩ := jx_ga_some h
    refine jm_iald hx hb hK hP jm_a36 ej2 bj2 dX6_isTried_19 ?_
    obtain ⟨y3, ey3, h⟩ := jx_nx_some h
    refine jx_topi ey3 ?_
    refine lv_istore (lv' := [(4, .int y3), (0, .ref (ad 0)), (1, .int x1), (2, .int x2), (3, .int x3)]) hx hb dX6_isTried_20 hl (Nat.le_of_ble_eq_true rfl) rfl (fun ls hl => ?_)
    refine lv_aload_n hx hb dX6_isTried_22 rfl (lv_at hl 1 rfl) ?_
    refine lv_iload_n hx hb dX6_isTried_23 rfl (lv_at hl 2 rfl) ?_
    refine lv_iload_n hx hb dX6_isTried_24 rfl (lv_at hl 4 rfl) ?_
    refine lv_iload_n hx hb dX6_isTried_25 rfl (lv_at hl 3 rfl) ?_
    obtain ⟨q4, eq4, h⟩ := jx_bi_some h
    refine jm_callV hx hb hml hown hts hlv hK hZ (jm_bendsAt_met eq4) jm_bendsAt_g jm_bendsAt_d (As := [.int x1, .int x3, .int x2]) (Nat.le_of_ble_eq_true rfl) (Nat.le_of_ble_eq_true rfl) hP hD hS hl.1 rfl rfl (lv_room (Nat.le_of_ble_eq_true rfl)) dX6_isTried_26 (fun H locs hP hD hS => ?_)
    refine lv_aload_n hx hb dX6_isTried_29 rfl (lv_at hl 1 rfl) ?_
    refine lv_iload hx hb dX6_isTried_30 (lv_at hl 0 rfl) ?_
    obtain ⟨q5, eq5, h⟩ := jx_bi_some h
    refine jm_callI hx hb hml hown hts hlv hK hZ (jm_isTrapped_met eq5) jm_isTrapped_g jm_isTrapped_d (As := [.int y3]) (Nat.le_of_ble_eq_true rfl) (Nat.le_of_ble_eq_true rfl) hP hD hS hl.1 rfl rfl (lv_room (Nat.le_of_ble_eq_true rfl)) dX6_isTried_32 (fun H locs hP hD hS => ?_)
    refine lv_if_eq (tgt := 40) hx hb dX6_isTried_35 rfl (fun c6 => ?_) (fun c6 => ?_)
    · rw [if_pos c6] at h
      refine lv_iload_n hx hb dX6_isTried_40 rfl (lv_at hl 4 rfl) ?_
      refine lv_aload_n hx hb dX6_isTried_41 rfl (lv_at hl 1 rfl) ?_
      refine jm_get hx hb hts hown hK hP jm_f38 (by decide) jm_g38 dX6_isTried_42 ?_
      refine lv_iconst hx hb dX6_isTried_45 jx_ki1 ?_
      refine lv_isub hx hb dX6_isTried_46 ?_
      refine lv_icmp_ne (tgt := 81) hx hb dX6_isTried_47 rfl (fun c7 => ?_) (fun c7 => ?_)
      · rw [if_neg c7] at h
        refine lv_aload_n hx hb dX6_isTried_81 rfl (lv_at hl 1 rfl) ?_
        refine lv_iload hx hb dX6_isTried_82 (lv_at hl 0 rfl) ?_
        obtain ⟨q8, eq8, h⟩ := jx_bi_some h
        refine jm_callI hx hb hml hown hts hlv hK hZ (jm_wordOf_met eq8) jm_wordOf_g jm_wordOf_d (As := [.int y3]) (Nat.le_of_ble_eq_true rfl) (Nat.le_of_ble_eq_true rfl) hP hD hS hl.1 rfl rfl (lv_room (Nat.le_of_ble_eq_true rfl)) dX6_isTried_84 (fun H locs hP hD hS => ?_)
        refine lv_bipush hx hb dX6_isTried_87 jx_kb7 ?_
        refine lv_icmp_ne (tgt := 127) hx hb dX6_isTried_89 rfl (fun c9 => ?_) (fun c9 => ?_)
        · rw [if_neg c9] at h
          exact jm_isTried_b127_ok hX F hr6 _ _ _ _ _ h _ _ _ hP hD hS (lv_sub hl [1, 2, 3, 4, 0] rfl)
        · rw [if_pos c9] at h
          refine lv_aload_n hx hb dX6_isTried_92 rfl (lv_at hl 1 rfl) ?_
          refine lv_iload hx hb dX6_isTried_93 (lv_at hl 0 rfl) ?_
          refine lv_iconst hx hb dX6_isTried_95 jx_ki2 ?_
          obtain ⟨q10, eq10, h⟩ := jx_bi_some h
          refine jm_callI hx hb hml hown hts hlv hK hZ (jm_of_met eq10) jm_of_g jm_of_d (As := [.int y3, .int (nI 2)]) (Nat.le_of_ble_eq_true rfl) (Nat.le_of_ble_eq_true rfl) hP hD hS hl.1 rfl rfl (lv_room (Nat.le_of_ble_eq_true rfl)) dX6_isTried_96 (fun H locs hP hD hS => ?_)
          refine lv_iconst hx hb dX6_isTried_99 jx_ki3 ?_
          refine lv_icmp_ne (tgt := 127) hx hb dX6_isTried_100 rfl (fun c11 => ?_) (fun c11 => ?_)
          · rw [if_neg c11] at h
            exact jm_isTried_b127_ok hX F hr6 _ _ _ _ _ h _ _ _ hP hD hS (lv_sub hl [1, 2, 3, 4, 0] rfl)
          · rw [if_pos c11] at h
            refine lv_aload_n hx hb dX6_isTried_103 rfl (lv_at hl 1 rfl) ?_
            refine jm_get hx hb hts hown hK hP jm_f20 (by decide) jm_g20 dX6_isTried_104 ?_
            refine lv_aload_n hx hb dX6_isTried_107 rfl (lv_at hl 1 rfl) ?_
            refine jm_get hx hb hts hown hK hP jm_f21 (by decide) jm_g21 dX6_isTried_108 ?_
            refine lv_iconst hx hb dX6_isTried_111 jx_ki1 ?_
            refine lv_isub hx hb dX6_isTried_112 ?_
            obtain ⟨j12, ej12, bj12, h⟩ := jx_ga_some h
            refine jm_iald hx hb hK hP jm_a20 ej12 bj12 dX6_isTried_113 ?_
            refine lv_aload_n hx hb dX6_isTried_114 rfl (lv_at hl 1 rfl) ?_
            refine jm_get hx hb hts hown hK hP jm_f36 (by decide) jm_g36 dX6_isTried_115 ?_
            refine lv_iload_n hx hb dX6_isTried_118 rfl (lv_at hl 4 rfl) ?_
            refine lv_iconst hx hb dX6_isTried_119 jx_ki1 ?_
            refine lv_iadd hx hb dX6_isTried_120 ?_
            obtain ⟨j13, ej13, bj13, h⟩ := jx_ga_some h
            refine jm_iald hx hb hK hP jm_a36 ej13 bj13 dX6_isTried_121 ?_
            refine lv_icmp_eq (tgt := 127) hx hb dX6_isTried_122 rfl (fun c14 => ?_) (fun c14 => ?_)
            · rw [if_pos c14] at h
              exact jm_isTried_b127_ok hX F hr6 _ _ _ _ _ h _ _ _ hP hD hS (lv_sub hl [1, 2, 3, 4, 0] rfl)
            · rw [if_neg c14] at h
              refine lv_iconst hx hb dX6_isTried_125 jx_ki0 ?_
              exact jm_zret hx hb hr hlk hK hZ hP hD hS jx_nz0 h dX6_isTried_126
      · rw [if_pos c7] at h
        refine lv_aload_n hx hb dX6_isTried_50 rfl (lv_at hl 1 rfl) ?_
        refine lv_aload_n hx hb dX6_isTried_51 rfl (lv_at hl 1 rfl) ?_
        refine lv_iload hx hb dX6_isTried_52 (lv_at hl 0 rfl) ?_
        refine lv_bipush hx hb dX6_isTried_54 jx_kb6 ?_
        obtain ⟨q15, eq15, h⟩ := jx_bi_some h
        refine jm_callI hx hb hml hown hts hlv hK hZ (jm_of_met eq15) jm_of_g jm_of_d (As := [.int y3, .int (nI 6)]) (Nat.le_of_ble_eq_true rfl) (Nat.le_of_ble_eq_true rfl) hP hD hS hl.1 rfl rfl (lv_room (Nat.le_of_ble_eq_true rfl)) dX6_isTried_56 (fun H locs hP hD hS => ?_)
        obtain ⟨q16, eq16, h⟩ := jx_bi_some h
        refine jm_callI hx hb hml hown hts hlv hK hZ (jm_valueOf_met eq16) jm_valueOf_g jm_valueOf_d (As := [.int q15.1]) (Nat.le_of_ble_eq_true rfl) (Nat.le_of_ble_eq_true rfl) hP hD hS hl.1 rfl rfl (lv_room (Nat.le_of_ble_eq_true rfl)) dX6_isTried_59 (fun H locs hP hD hS => ?_)
        refine lv_aload_n hx hb dX6_isTried_62 rfl (lv_at hl 1 rfl) ?_
        refine jm_get hx hb hts hown hK hP jm_f1 (by decide) jm_g1 dX6_isTried_63 ?_
        refine lv_sipush hx hb dX6_isTried_66 jx_ks404 ?_
        refine lv_iload_n hx hb dX6_isTried_69 rfl (lv_at hl 3 rfl) ?_
        refine lv_iadd hx hb dX6_isTried_70 ?_
        obtain ⟨j17, ej17, bj17, h⟩ := jx_ga_some h
        refine jm_iald hx hb hK hP jm_a1 ej17 bj17 dX6_isTried_71 ?_
        refine lv_icmp_ne (tgt := 79) hx hb dX6_isTried_72 rfl (fun c18 => ?_) (fun c18 => ?_)
        · rw [if_neg c18] at h
          refine lv_iconst hx hb dX6_isTried_79 jx_ki0 ?_
          exact jm_zret hx hb hr hlk hK hZ hP hD hS jx_nz0 h dX6_isTried_80
        · rw [if_pos c18] at h
          refine lv_iconst hx hb dX6_isTried_75 jx_ki1 ?_
          refine lv_goto (tgt := 80) hx hb dX6_isTried_76 rfl ?_
          exact jm_zret hx hb hr hlk hK hZ hP hD hS jx_nz1 h dX6_isTried_80
    · rw [if_neg c6] at h
      refine lv_iconst hx hb dX6_isTried_38 jx_ki0 ?_
      exact jm_zret hx hb hr hlk hK hZ hP hD hS jx_nz0 h dX6_isTried_39
theorem jm_isTried_h6_ok {out : Int32 × jm_S} (hX : jm_Ok p R s m args meth c A D ck ad sa cX6_isTried 5 (some .boolean) 4) (F : Nat) (n : Nat) (a : Int32 × Int32 × Int32 × jm_S) (h : jm_isTried_h6 F n a = some out) : jm_J p l e R s m args below meth c A D ck ad 5 (jm_Qi below args s A D ck ad sa out) 6 [(0, .ref (ad 0)), (1, .int a.1), (2, .int a.2.1), (3, .int a.2.2.1)] [] a.2.2.2 :=
  jx_loop_ind (J := fun a => jm_J p l e R s m args below meth c A D ck ad 5 (jm_Qi below args s A D ck ad sa out) 6 [(0, .ref (ad 0)), (1, .int a.1), (2, .int a.2.1), (3, .int a.2.2.1)] [] a.2.2.2) (fun r hr a h => jm_isTried_L6_ok hX F hr a.1 a.2.1 a.2.2.1 a.2.2.2 h) n a h
theorem jm_isTried_ok {out : Int32 × jm_S} (hX : jm_Ok p R s m args meth c A D ck ad sa cX6_isTried 5 (some .boolean) 4) (F : Nat) (x1 : Int32) (x2 : Int32) (S : jm_S) (h : jm_isTried F x1 x2 S = some out) : jm_J p l e R s m args below meth c A D ck ad 5 (jm_Qi below args s A D ck ad sa out) 0 [(0, .ref (ad 0)), (1, .int x1), (2, .int x2)] [] S := by
  intro H locs ls hP hD hS hl
  have hX0 := hX
  obtain ⟨hx, hb, hml, hown, hts, hlk, hr, hlv, hK, hZ⟩ := hX0
  unfold jm_isTried at h
  refine lv_aload_n hx hb dX6_isTried_0 rfl (lv_at hl 0 rfl) ?_
  obtain ⟨q1, eq1, h⟩ := jx_bi_some h
  refine jm_callV hx hb hml hown hts hlv hK hZ (jm_begins_met eq1) jm_begins_g jm_begins_d (As := []) (Nat.le_of_ble_eq_true rfl) (Nat.le_of_ble_eq_true rfl) hP hD hS hl.1 rfl rfl (lv_room (Nat.le_of_ble_eq_true rfl)) dX6_isTried_1 (fun H locs hP hD hS => ?_)
  refine lv_iconst hx hb dX6_isTried_4 jx_ki0 ?_
  obtain ⟨y2, ey2, h⟩ := jx_nx_some h
  refine jx_topi ey2 ?_
  refine lv_istore_n (lv' := [(3, .int y2), (0, .ref (ad 0)), (1, .int x1), (2, .int x2)]) hx hb dX6_isTried_5 rfl hl (Nat.le_of_ble_eq_true rfl) rfl (fun ls hl => ?_)
  exact jm_isTried_h6_ok hX F F _ h _ _ _ hP hD hS (lv_sub hl [1, 2, 3, 0] rfl)
theorem jm_isTried_met {l : Launch} {D : va_G} {ck : Nat → ClassId} {ad sa : Nat → Nat} {A : Nat → Prop} {F : Nat} {x1 : Int32} {x2 : Int32} {S : jm_S} {out : Int32 × jm_S} (h : jm_isTried F x1 x2 S = some out) : jm_Mi l D ck ad sa A yX6_isTried cX6_isTried 5 (some .boolean) 4 [.int x1, .int x2] S out :=
  jm_Mi_of ⟨by decide, rfl, Nat.le_of_ble_eq_true rfl⟩ (fun hX => jm_isTried_ok hX F x1 x2 S h)
theorem jm_reachOf_d : yX6_reachOf.cls = RX6 ∧ yX6_reachOf.cls ≠ "java/lang/invoke/MethodHandle" ∧ yX6_reachOf.cls ≠ "java/lang/invoke/VarHandle" ∧ (parseMethodDescriptor yX6_reachOf.desc).map (fun d => d.parameters.length) = some 2 := by decide +kernel
theorem jm_reachOf_g : GoodIn lw_all (wsV RX6 405 RX6 yX6_reachOf (ws_ yX6_reachOf cX6_reachOf 3 (some .int))) := lw_V q2029 q2031 qs89 q110 q2032
theorem jm_reachOf_ok {out : Int32 × jm_S} (hX : jm_Ok p R s m args meth c A D ck ad sa cX6_reachOf 3 (some .int) 10) (F : Nat) (x1 : Int32) (x2 : Int32) (S : jm_S) (h : jm_reachOf F x1 x2 S = some out) : jm_J p l e R s m args below meth c A D ck ad 3 (jm_Qi below args s A D ck ad sa out) 0 [(0, .ref (ad 0)), (1, .int x1), (2, .int x2)] [] S := by
  intro H locs ls hP hD hS hl
  have hX0 := hX
  obtain ⟨hx, hb, hml, hown, hts, hlk, hr, hlv, hK, hZ⟩ := hX0
  unfold jm_reachOf at h
  refine lv_aload_n hx hb dX6_reachOf_0 rfl (lv_at hl 0 rfl) ?_
  refine lv_iload_n hx hb dX6_reachOf_1 rfl (lv_at hl 1 rfl) ?_
  refine lv_iload_n hx hb dX6_reachOf_2 rfl (lv_at hl 2 rfl) ?_
  obtain ⟨q1, eq1, h⟩ := jx_bi_some h
  refine jm_callV hx hb hml hown hts hlv hK hZ (jm_finds_met eq1) jm_finds_g jm_finds_d (As := [.int x1, .int x2]) (Nat.le_of_ble_eq_true rfl) (Nat.le_of_ble_eq_true rfl) hP hD hS hl.1 rfl rfl (lv_room (Nat.le_of_ble_eq_true rfl)) dX6_reachOf_3 (fun H locs hP hD hS => ?_)
  refine lv_aload_n hx hb dX6_reachOf_6 rfl (lv_at hl 0 rfl) ?_
  refine jm_get hx hb hts hown hK hP jm_f38 (by decide) jm_g38 dX6_reachOf_7 ?_
  refine lv_if_ne (tgt := 17) hx hb dX6_reachOf_10 rfl (fun c2 => ?_) (fun c2 => ?_)
  · rw [if_neg c2] at h
    refine lv_aload_n hx hb dX6_reachOf_17 rfl (lv_at hl 0 rfl) ?_
    refine lv_iload_n hx hb dX6_reachOf_18 rfl (lv_at hl 1 rfl) ?_
    refine lv_iload_n hx hb dX6_reachOf_19 rfl (lv_at hl 2 rfl) ?_
    obtain ⟨q3, eq3, h⟩ := jx_bi_some h
    refine jm_callI hx hb hml hown hts hlv hK hZ (jm_isTried_met eq3) jm_isTried_g jm_isTried_d (As := [.int x1, .int x2]) (Nat.le_of_ble_eq_true rfl) (Nat.le_of_ble_eq_true rfl) hP hD hS hl.1 rfl rfl (lv_room (Nat.le_of_ble_eq_true rfl)) dX6_reachOf_20 (fun H locs hP hD hS => ?_)
    refine lv_if_eq (tgt := 30) hx hb dX6_reachOf_23 rfl (fun c4 => ?_) (fun c4 => ?_)
    · rw [if_pos c4] at h
      refine lv_iconst hx hb dX6_reachOf_30 jx_ki2 ?_
      exact jm_iret hx hb hr hlk hK hZ hP hD hS h dX6_reachOf_31
    · rw [if_neg c4] at h
      refine lv_iconst hx hb dX6_reachOf_26 jx_ki1 ?_
      refine lv_goto (tgt := 31) hx hb dX6_reachOf_27 rfl ?_
      exact jm_iret hx hb hr hlk hK hZ hP hD hS h dX6_reachOf_31
  · rw [if_pos c2] at h
    refine lv_iconst hx hb dX6_reachOf_13 jx_ki0 ?_
    refine lv_goto (tgt := 31) hx hb dX6_reachOf_14 rfl ?_
    exact jm_iret hx hb hr hlk hK hZ hP hD hS h dX6_reachOf_31
theorem jm_reachOf_met {l : Launch} {D : va_G} {ck : Nat → ClassId} {ad sa : Nat → Nat} {A : Nat → Prop} {F : Nat} {x1 : Int32} {x2 : Int32} {S : jm_S} {out : Int32 × jm_S} (h : jm_reachOf F x1 x2 S = some out) : jm_Mi l D ck ad sa A yX6_reachOf cX6_reachOf 3 (some .int) 10 [.int x1, .int x2] S out :=
  jm_Mi_of ⟨by decide, rfl, Nat.le_of_ble_eq_true rfl⟩ (fun hX => jm_reachOf_ok hX F x1 x2 S h)
theorem jm_reach_d : yX6_reach.cls = RX6 ∧ yX6_reach.cls ≠ "java/lang/invoke/MethodHandle" ∧ yX6_reach.cls ≠ "java/lang/invoke/VarHandle" ∧ (parseMethodDescriptor yX6_reach.desc).map (fun d => d.parameters.length) = some 2 := by decide +kernel
theorem jm_reach_b27_ok {out : Int32 × jm_S} (hX : jm_Ok p R s m args meth c A D ck ad sa cX6_reach 3 (some .int) 11) (F : Nat) (x1 : Int32) (x2 : Int32) (k0 : Int32) (S : jm_S) (h : jm_reach_b27 F x1 x2 k0 S = some out) : jm_J p l e R s m args below meth c A D ck ad 3 (jm_Qi below args s A D ck ad sa out) 27 [(0, .ref (ad 0)), (1, .int x1), (2, .int x2)] [.int k0, .ref (ad 0)] S := by
  intro H locs ls hP hD hS hl
  have hX0 := hX
  obtain ⟨hx, hb, hml, hown, hts, hlk, hr, hlv, hK, hZ⟩ := hX0
  unfold jm_reach_b27 at h
  refine lv_iconst hx hb dX6_reach_27 jx_ki1 ?_
  obtain ⟨q1, eq1, h⟩ := jx_bi_some h
  refine jm_callI hx hb hml hown hts hlv hK hZ (jm_throwsIf_met eq1) jm_throwsIf_g jm_throwsIf_d (As := [.int k0, .int (nI 1)]) (Nat.le_of_ble_eq_true rfl) (Nat.le_of_ble_eq_true rfl) hP hD hS hl.1 rfl rfl (lv_room (Nat.le_of_ble_eq_true rfl)) dX6_reach_28 (fun H locs hP hD hS => ?_)
  refine lv_if_eq (tgt := 38) hx hb dX6_reach_31 rfl (fun c2 => ?_) (fun c2 => ?_)
  · rw [if_pos c2] at h
    refine lv_aload_n hx hb dX6_reach_38 rfl (lv_at hl 0 rfl) ?_
    refine lv_iload_n hx hb dX6_reach_39 rfl (lv_at hl 1 rfl) ?_
    refine lv_iload_n hx hb dX6_reach_40 rfl (lv_at hl 2 rfl) ?_
    obtain ⟨q3, eq3, h⟩ := jx_bi_some h
    refine jm_callI hx hb hml hown hts hlv hK hZ (jm_reachOf_met eq3) jm_reachOf_g jm_reachOf_d (As := [.int x1, .int x2]) (Nat.le_of_ble_eq_true rfl) (Nat.le_of_ble_eq_true rfl) hP hD hS hl.1 rfl rfl (lv_room (Nat.le_of_ble_eq_true rfl)) dX6_reach_41 (fun H locs hP hD hS => ?_)
    exact jm_iret hx hb hr hlk hK hZ hP hD hS h dX6_reach_44
  · rw [if_neg c2] at h
    refine lv_iconst hx hb dX6_reach_34 jx_ki0 ?_
    refine lv_goto (tgt := 44) hx hb dX6_reach_35 rfl ?_
    exact jm_iret hx hb hr hlk hK hZ hP hD hS h dX6_reach_44
theorem jm_reach_b22_ok {out : Int32 × jm_S} (hX : jm_Ok p R s m args meth c A D ck ad sa cX6_reach 3 (some .int) 11) (F : Nat) (x1 : Int32) (x2 : Int32) (S : jm_S) (h : jm_reach_b22 F x1 x2 S = some out) : jm_J p l e R s m args below meth c A D ck ad 3 (jm_Qi below args s A D ck ad sa out) 22 [(0, .ref (ad 0)), (1, .int x1), (2, .int x2)] [.ref (ad 0)] S := by
  intro H locs ls hP hD hS hl
  have hX0 := hX
  obtain ⟨hx, hb, hml, hown, hts, hlk, hr, hlv, hK, hZ⟩ := hX0
  unfold jm_reach_b22 at h
  refine lv_iconst hx hb dX6_reach_22 jx_ki1 ?_
  refine lv_goto (tgt := 27) hx hb dX6_reach_23 rfl ?_
  exact jm_reach_b27_ok hX F _ _ _ _ h _ _ _ hP hD hS hl
theorem jm_reach_ok {out : Int32 × jm_S} (hX : jm_Ok p R s m args meth c A D ck ad sa cX6_reach 3 (some .int) 11) (F : Nat) (x1 : Int32) (x2 : Int32) (S : jm_S) (h : jm_reach F x1 x2 S = some out) : jm_J p l e R s m args below meth c A D ck ad 3 (jm_Qi below args s A D ck ad sa out) 0 [(0, .ref (ad 0)), (1, .int x1), (2, .int x2)] [] S := by
  intro H locs ls hP hD hS hl
  have hX0 := hX
  obtain ⟨hx, hb, hml, hown, hts, hlk, hr, hlv, hK, hZ⟩ := hX0
  unfold jm_reach at h
  refine lv_aload_n hx hb dX6_reach_0 rfl (lv_at hl 0 rfl) ?_
  refine lv_iconst hx hb dX6_reach_1 jx_ki0 ?_
  obtain ⟨S1, eS1, h⟩ := jx_nx_some h
  refine jm_put hx hb hts hown hK hP hD hS eS1 jm_f0 (by decide) jm_n0 jm_d0 jm_p0 dX6_reach_2 (fun H locs hP hD hS => ?_)
  refine lv_aload_n hx hb dX6_reach_5 rfl (lv_at hl 0 rfl) ?_
  refine lv_aload_n hx hb dX6_reach_6 rfl (lv_at hl 0 rfl) ?_
  refine lv_iload_n hx hb dX6_reach_7 rfl (lv_at hl 1 rfl) ?_
  obtain ⟨q2, eq2, h⟩ := jx_bi_some h
  refine jm_callI hx hb hml hown hts hlv hK hZ (jm_noPower_met eq2) jm_noPower_g jm_noPower_d (As := [.int x1]) (Nat.le_of_ble_eq_true rfl) (Nat.le_of_ble_eq_true rfl) hP hD hS hl.1 rfl rfl (lv_room (Nat.le_of_ble_eq_true rfl)) dX6_reach_8 (fun H locs hP hD hS => ?_)
  refine lv_if_ne (tgt := 22) hx hb dX6_reach_11 rfl (fun c3 => ?_) (fun c3 => ?_)
  · rw [if_neg c3] at h
    exact jm_reach_b22_ok hX F _ _ _ h _ _ _ hP hD hS hl
  · rw [if_pos c3] at h
    refine lv_aload_n hx hb dX6_reach_14 rfl (lv_at hl 0 rfl) ?_
    refine lv_iload_n hx hb dX6_reach_15 rfl (lv_at hl 2 rfl) ?_
    obtain ⟨q4, eq4, h⟩ := jx_bi_some h
    refine jm_callI hx hb hml hown hts hlv hK hZ (jm_noHarm_met eq4) jm_noHarm_g jm_noHarm_d (As := [.int x2]) (Nat.le_of_ble_eq_true rfl) (Nat.le_of_ble_eq_true rfl) hP hD hS hl.1 rfl rfl (lv_room (Nat.le_of_ble_eq_true rfl)) dX6_reach_16 (fun H locs hP hD hS => ?_)
    refine lv_if_eq (tgt := 26) hx hb dX6_reach_19 rfl (fun c5 => ?_) (fun c5 => ?_)
    · rw [if_pos c5] at h
      refine lv_iconst hx hb dX6_reach_26 jx_ki0 ?_
      exact jm_reach_b27_ok hX F _ _ _ _ h _ _ _ hP hD hS hl
    · rw [if_neg c5] at h
      exact jm_reach_b22_ok hX F _ _ _ h _ _ _ hP hD hS hl
theorem jm_reach_met {l : Launch} {D : va_G} {ck : Nat → ClassId} {ad sa : Nat → Nat} {A : Nat → Prop} {F : Nat} {x1 : Int32} {x2 : Int32} {S : jm_S} {out : Int32 × jm_S} (h : jm_reach F x1 x2 S = some out) : jm_Mi l D ck ad sa A yX6_reach cX6_reach 3 (some .int) 11 [.int x1, .int x2] S out :=
  jm_Mi_of ⟨by decide, rfl, Nat.le_of_ble_eq_true rfl⟩ (fun hX => jm_reach_ok hX F x1 x2 S h)
theorem jm_row_d : yX6_row.cls = RX6 ∧ yX6_row.cls ≠ "java/lang/invoke/MethodHandle" ∧ yX6_row.cls ≠ "java/lang/invoke/VarHandle" ∧ (parseMethodDescriptor yX6_row.desc).map (fun d => d.parameters.length) = some 3 := by decide +kernel
theorem jm_row_b27_ok {out : Int32 × jm_S} (hX : jm_Ok p R s m args meth c A D ck ad sa cX6_row 4 (some .int) 10) (F : Nat) (x1 : Int32) (x2 : Int32) (x3 : Int32) (k0 : Int32) (S : jm_S) (h : jm_row_b27 F x1 x2 x3 k0 S = some out) : jm_J p l e R s m args below meth c A D ck ad 4 (jm_Qi below args s A D ck ad sa out) 27 [(0, .ref (ad 0)), (1, .int x1), (2, .int x2), (3, .int x3)] [.int k0, .ref (ad 0)] S := by
  intro H locs ls hP hD hS hl
  have hX0 := hX
  obtain ⟨hx, hb, hml, hown, hts, hlk, hr, hlv, hK, hZ⟩ := hX0
  unfold jm_row_b27 at h
  refine lv_iconst hx hb dX6_row_27 jx_ki1 ?_
  obtain ⟨q1, eq1, h⟩ := jx_bi_some h
  refine jm_callI hx hb hml hown hts hlv hK hZ (jm_throwsIf_met eq1) jm_throwsIf_g jm_throwsIf_d (As := [.int k0, .int (nI 1)]) (Nat.le_of_ble_eq_true rfl) (Nat.le_of_ble_eq_true rfl) hP hD hS hl.1 rfl rfl (lv_room (Nat.le_of_ble_eq_true rfl)) dX6_row_28 (fun H locs hP hD hS => ?_)
  refine lv_if_eq (tgt := 36) hx hb dX6_row_31 rfl (fun c2 => ?_) (fun c2 => ?_)
  · rw [if_pos c2] at h
    refine lv_aload_n hx hb dX6_row_36 rfl (lv_at hl 0 rfl) ?_
    refine lv_iload_n hx hb dX6_row_37 rfl (lv_at hl 1 rfl) ?_
    refine lv_iload_n hx hb dX6_row_38 rfl (lv_at hl 2 rfl) ?_
    obtain ⟨q3, eq3, h⟩ := jx_bi_some h
    refine jm_callV hx hb hml hown hts hlv hK hZ (jm_finds_met eq3) jm_finds_g jm_finds_d (As := [.int x1, .int x2]) (Nat.le_of_ble_eq_true rfl) (Nat.le_of_ble_eq_true rfl) hP hD hS hl.1 rfl rfl (lv_room (Nat.le_of_ble_eq_true rfl)) dX6_row_39 (fun H locs hP hD hS => ?_)
    refine lv_iload_n hx hb dX6_row_42 rfl (lv_at hl 3 rfl) ?_
    refine lv_iconst hx hb dX6_row_43 jx_ki0 ?_
    refine lv_aload_n hx hb dX6_row_44 rfl (lv_at hl 0 rfl) ?_
    refine jm_get hx hb hts hown hK hP jm_f38 (by decide) jm_g38 dX6_row_45 ?_
    refine lv_iconst hx hb dX6_row_48 jx_ki1 ?_
    refine lv_isub hx hb dX6_row_49 ?_
    obtain ⟨q4, eq4, h⟩ := jx_bi_some h
    refine jx_callSi hx hb hml hown hts (jm_in_met eq4) jm_in_g_X6 jm_in_d (As := [.int x3, .int (nI 0), .int ((q3.1 38) - (nI 1))]) (by rw [hlv]; decide) hl.1 rfl rfl (lv_room (Nat.le_of_ble_eq_true rfl)) dX6_row_50 (by rw [hlv]; exact ⟨Nat.zero_le _, Nat.zero_le _⟩) ?_
    refine lv_if_eq (tgt := 65) hx hb dX6_row_53 rfl (fun c5 => ?_) (fun c5 => ?_)
    · rw [if_pos c5] at h
      refine lv_iconst hx hb dX6_row_65 jx_kim1 ?_
      exact jm_iret hx hb hr hlk hK hZ hP hD hS h dX6_row_66
    · rw [if_neg c5] at h
      refine lv_aload_n hx hb dX6_row_56 rfl (lv_at hl 0 rfl) ?_
      refine jm_get hx hb hts hown hK hP jm_f36 (by decide) jm_g36 dX6_row_57 ?_
      refine lv_iload_n hx hb dX6_row_60 rfl (lv_at hl 3 rfl) ?_
      obtain ⟨j6, ej6, bj6, h⟩ := jx_ga_some h
      refine jm_iald hx hb hK hP jm_a36 ej6 bj6 dX6_row_61 ?_
      refine lv_goto (tgt := 66) hx hb dX6_row_62 rfl ?_
      exact jm_iret hx hb hr hlk hK hZ hP hD hS h dX6_row_66
  · rw [if_neg c2] at h
    refine lv_iconst hx hb dX6_row_34 jx_ki0 ?_
    exact jm_iret hx hb hr hlk hK hZ hP hD hS h dX6_row_35
theorem jm_row_b22_ok {out : Int32 × jm_S} (hX : jm_Ok p R s m args meth c A D ck ad sa cX6_row 4 (some .int) 10) (F : Nat) (x1 : Int32) (x2 : Int32) (x3 : Int32) (S : jm_S) (h : jm_row_b22 F x1 x2 x3 S = some out) : jm_J p l e R s m args below meth c A D ck ad 4 (jm_Qi below args s A D ck ad sa out) 22 [(0, .ref (ad 0)), (1, .int x1), (2, .int x2), (3, .int x3)] [.ref (ad 0)] S := by
  intro H locs ls hP hD hS hl
  have hX0 := hX
  obtain ⟨hx, hb, hml, hown, hts, hlk, hr, hlv, hK, hZ⟩ := hX0
  unfold jm_row_b22 at h
  refine lv_iconst hx hb dX6_row_22 jx_ki1 ?_
  refine lv_goto (tgt := 27) hx hb dX6_row_23 rfl ?_
  exact jm_row_b27_ok hX F _ _ _ _ _ h _ _ _ hP hD hS hl
theorem jm_row_ok {out : Int32 × jm_S} (hX : jm_Ok p R s m args meth c A D ck ad sa cX6_row 4 (some .int) 10) (F : Nat) (x1 : Int32) (x2 : Int32) (x3 : Int32) (S : jm_S) (h : jm_row F x1 x2 x3 S = some out) : jm_J p l e R s m args below meth c A D ck ad 4 (jm_Qi below args s A D ck ad sa out) 0 [(0, .ref (ad 0)), (1, .int x1), (2, .int x2), (3, .int x3)] [] S := by
  intro H locs ls hP hD hS hl
  have hX0 := hX
  obtain ⟨hx, hb, hml, hown, hts, hlk, hr, hlv, hK, hZ⟩ := hX0
  unfold jm_row at h
  refine lv_aload_n hx hb dX6_row_0 rfl (lv_at hl 0 rfl) ?_
  refine lv_iconst hx hb dX6_row_1 jx_ki0 ?_
  obtain ⟨S1, eS1, h⟩ := jx_nx_some h
  refine jm_put hx hb hts hown hK hP hD hS eS1 jm_f0 (by decide) jm_n0 jm_d0 jm_p0 dX6_row_2 (fun H locs hP hD hS => ?_)
  refine lv_aload_n hx hb dX6_row_5 rfl (lv_at hl 0 rfl) ?_
  refine lv_aload_n hx hb dX6_row_6 rfl (lv_at hl 0 rfl) ?_
  refine lv_iload_n hx hb dX6_row_7 rfl (lv_at hl 1 rfl) ?_
  obtain ⟨q2, eq2, h⟩ := jx_bi_some h
  refine jm_callI hx hb hml hown hts hlv hK hZ (jm_noPower_met eq2) jm_noPower_g jm_noPower_d (As := [.int x1]) (Nat.le_of_ble_eq_true rfl) (Nat.le_of_ble_eq_true rfl) hP hD hS hl.1 rfl rfl (lv_room (Nat.le_of_ble_eq_true rfl)) dX6_row_8 (fun H locs hP hD hS => ?_)
  refine lv_if_ne (tgt := 22) hx hb dX6_row_11 rfl (fun c3 => ?_) (fun c3 => ?_)
  · rw [if_neg c3] at h
    exact jm_row_b22_ok hX F _ _ _ _ h _ _ _ hP hD hS hl
  · rw [if_pos c3] at h
    refine lv_aload_n hx hb dX6_row_14 rfl (lv_at hl 0 rfl) ?_
    refine lv_iload_n hx hb dX6_row_15 rfl (lv_at hl 2 rfl) ?_
    obtain ⟨q4, eq4, h⟩ := jx_bi_some h
    refine jm_callI hx hb hml hown hts hlv hK hZ (jm_noHarm_met eq4) jm_noHarm_g jm_noHarm_d (As := [.int x2]) (Nat.le_of_ble_eq_true rfl) (Nat.le_of_ble_eq_true rfl) hP hD hS hl.1 rfl rfl (lv_room (Nat.le_of_ble_eq_true rfl)) dX6_row_16 (fun H locs hP hD hS => ?_)
    refine lv_if_eq (tgt := 26) hx hb dX6_row_19 rfl (fun c5 => ?_) (fun c5 => ?_)
    · rw [if_pos c5] at h
      refine lv_iconst hx hb dX6_row_26 jx_ki0 ?_
      exact jm_row_b27_ok hX F _ _ _ _ _ h _ _ _ hP hD hS hl
    · rw [if_neg c5] at h
      exact jm_row_b22_ok hX F _ _ _ _ h _ _ _ hP hD hS hl
theorem jm_row_met {l : Launch} {D : va_G} {ck : Nat → ClassId} {ad sa : Nat → Nat} {A : Nat → Prop} {F : Nat} {x1 : Int32} {x2 : Int32} {x3 : Int32} {S : jm_S} {out : Int32 × jm_S} (h : jm_row F x1 x2 x3 S = some out) : jm_Mi l D ck ad sa A yX6_row cX6_row 4 (some .int) 10 [.int x1, .int x2, .int x3] S out :=
  jm_Mi_of ⟨by decide, rfl, Nat.le_of_ble_eq_true rfl⟩ (fun hX => jm_row_ok hX F x1 x2 x3 S h)
theorem jm_ticksOf_d : yX6_ticksOf.cls = RX6 ∧ yX6_ticksOf.cls ≠ "java/lang/invoke/MethodHandle" ∧ yX6_ticksOf.cls ≠ "java/lang/invoke/VarHandle" ∧ (parseMethodDescriptor yX6_ticksOf.desc).map (fun d => d.parameters.length) = some 1 := by decide +kernel
theorem jm_ticksOf_g : GoodIn lw_all (wsV RX6 414 RX6 yX6_ticksOf (ws_ yX6_ticksOf cX6_ticksOf 2 (some .int))) := lw_V q2069 q2071 qs97 q110 q2072
theorem jm_ticksOf_ok {out : Int32 × jm_S} (hX : jm_Ok p R s m args meth c A D ck ad sa cX6_ticksOf 2 (some .int) 0) (F : Nat) (x1 : Int32) (S : jm_S) (h : jm_ticksOf F x1 S = some out) : jm_J p l e R s m args below meth c A D ck ad 2 (jm_Qi below args s A D ck ad sa out) 0 [(0, .ref (ad 0)), (1, .int x1)] [] S := by
  intro H locs ls hP hD hS hl
  have hX0 := hX
  obtain ⟨hx, hb, hml, hown, hts, hlk, hr, hlv, hK, hZ⟩ := hX0
  unfold jm_ticksOf at h
  refine lv_iload_n hx hb dX6_ticksOf_0 rfl (lv_at hl 1 rfl) ?_
  refine lv_if_ne (tgt := 8) hx hb dX6_ticksOf_1 rfl (fun c1 => ?_) (fun c1 => ?_)
  · rw [if_neg c1] at h
    refine lv_aload_n hx hb dX6_ticksOf_8 rfl (lv_at hl 0 rfl) ?_
    refine jm_get hx hb hts hown hK hP jm_f1 (by decide) jm_g1 dX6_ticksOf_9 ?_
    refine lv_iconst hx hb dX6_ticksOf_12 jx_ki4 ?_
    refine lv_iload_n hx hb dX6_ticksOf_13 rfl (lv_at hl 1 rfl) ?_
    refine lv_iadd hx hb dX6_ticksOf_14 ?_
    obtain ⟨j2, ej2, bj2, h⟩ := jx_ga_some h
    refine jm_iald hx hb hK hP jm_a1 ej2 bj2 dX6_ticksOf_15 ?_
    exact jm_iret hx hb hr hlk hK hZ hP hD hS h dX6_ticksOf_16
  · rw [if_pos c1] at h
    refine lv_iconst hx hb dX6_ticksOf_4 jx_ki0 ?_
    refine lv_goto (tgt := 16) hx hb dX6_ticksOf_5 rfl ?_
    exact jm_iret hx hb hr hlk hK hZ hP hD hS h dX6_ticksOf_16
theorem jm_ticksOf_met {l : Launch} {D : va_G} {ck : Nat → ClassId} {ad sa : Nat → Nat} {A : Nat → Prop} {F : Nat} {x1 : Int32} {S : jm_S} {out : Int32 × jm_S} (h : jm_ticksOf F x1 S = some out) : jm_Mi l D ck ad sa A yX6_ticksOf cX6_ticksOf 2 (some .int) 0 [.int x1] S out :=
  jm_Mi_of ⟨by decide, rfl, Nat.le_of_ble_eq_true rfl⟩ (fun hX => jm_ticksOf_ok hX F x1 S h)
theorem jm_chooses_d : yX6_chooses.cls = RX6 ∧ yX6_chooses.cls ≠ "java/lang/invoke/MethodHandle" ∧ yX6_chooses.cls ≠ "java/lang/invoke/VarHandle" ∧ (parseMethodDescriptor yX6_chooses.desc).map (fun d => d.parameters.length) = some 4 := by decide +kernel
theorem jm_chooses_g : GoodIn lw_all (wsV RX6 417 RX6 yX6_chooses (ws_ yX6_chooses cX6_chooses 8 none)) := lw_V q2065 q2067 qs96 q110 q2068
theorem jm_chooses_L50_ok {out : jm_S} (hX : jm_Ok p R s m args meth c A D ck ad sa cX6_chooses 8 none lv) (F : Nat) (rc : Int32 × Int32 × Int32 × Int64 × jm_S → Option (jm_S)) {lv0 : Nat} (hlr : lv0 + 1 ≤ lv) (hl0 : 6 ≤ lv) (hrc : ∀ a q, rc a = some q → jm_Mv l D ck ad sa A yX6_chooses cX6_chooses 8 none lv0 [.int a.1, .int a.2.1, .int a.2.2.1, .long a.2.2.2.1] a.2.2.2.2 q) {r50 : Int32 × Int32 × jm_S → Option (jm_S)} (hr50 : ∀ a, r50 a = some out → jm_J p l e R s m args below meth c A D ck ad 8 (jm_Qv below args s A D ck ad sa out) 50 [(0, .ref (ad 0)), (1, .int a.1), (6, .int a.2.1)] [] a.2.2) (x1 : Int32) (x6 : Int32) (S : jm_S) (h : jm_chooses_L50 F rc r50 x1 x6 S = some out) : jm_J p l e R s m args below meth c A D ck ad 8 (jm_Qv below args s A D ck ad sa out) 50 [(0, .ref (ad 0)), (1, .int x1), (6, .int x6)] [] S := by
  intro H locs ls hP hD hS hl
  have hX0 := hX
  obtain ⟨hx, hb, hml, hown, hts, hlk, hr, hlv, hK, hZ⟩ := hX0
  unfold jm_chooses_L50 at h
  refine lv_iload hx hb dX6_chooses_50 (lv_at hl 2 rfl) ?_
  refine lv_iload_n hx hb dX6_chooses_52 rfl (lv_at hl 1 rfl) ?_
  refine lv_icmp_ge (tgt := 76) hx hb dX6_chooses_53 rfl (fun c1 => ?_) (fun c1 => ?_)
  · rw [if_pos c1] at h
    exact jm_vret hx hb hr hlk hK hZ hP hD hS h dX6_chooses_76
  · rw [if_neg c1] at h
    refine lv_aload_n hx hb dX6_chooses_56 rfl (lv_at hl 0 rfl) ?_
    refine jm_get hx hb hts hown hK hP jm_f40 (by decide) jm_g40 dX6_chooses_57 ?_
    refine lv_iload hx hb dX6_chooses_60 (lv_at hl 2 rfl) ?_
    refine lv_aload_n hx hb dX6_chooses_62 rfl (lv_at hl 0 rfl) ?_
    refine jm_get hx hb hts hown hK hP jm_f39 (by decide) jm_g39 dX6_chooses_63 ?_
    refine lv_iload hx hb dX6_chooses_66 (lv_at hl 2 rfl) ?_
    obtain ⟨j2, ej2, bj2, h⟩ := jx_ga_some h
    refine jm_iald hx hb hK hP jm_a39 ej2 bj2 dX6_chooses_68 ?_
    obtain ⟨j3, ej3, bj3, h⟩ := jx_ga_some h
    obtain ⟨S4, eS4, h⟩ := jx_nx_some h
    refine jm_iast hx hb hK hP hD hS jm_a40 (fun f => jm_u40 f) ej3 bj3 eS4 dX6_chooses_69 (fun H locs hP hD hS => ?_)
    obtain ⟨y5, ey5, h⟩ := jx_nx_some h
    refine lv_iinc (v := y5) (lv' := [(6, .int y5), (0, .ref (ad 0)), (1, .int x1)]) hx hb dX6_chooses_70 hl (k := 2) rfl (jx_inc jx_ki1 ey5) (Nat.le_of_ble_eq_true rfl) rfl (fun ls hl => ?_)
    refine lv_goto (tgt := 50) hx hb dX6_chooses_73 rfl ?_
    exact hr50 _ h _ _ _ hP hD hS (lv_sub hl [1, 2, 0] rfl)
theorem jm_chooses_h50_ok {out : jm_S} (hX : jm_Ok p R s m args meth c A D ck ad sa cX6_chooses 8 none lv) (F : Nat) (rc : Int32 × Int32 × Int32 × Int64 × jm_S → Option (jm_S)) {lv0 : Nat} (hlr : lv0 + 1 ≤ lv) (hl0 : 6 ≤ lv) (hrc : ∀ a q, rc a = some q → jm_Mv l D ck ad sa A yX6_chooses cX6_chooses 8 none lv0 [.int a.1, .int a.2.1, .int a.2.2.1, .long a.2.2.2.1] a.2.2.2.2 q) (n : Nat) (a : Int32 × Int32 × jm_S) (h : jm_chooses_h50 F rc n a = some out) : jm_J p l e R s m args below meth c A D ck ad 8 (jm_Qv below args s A D ck ad sa out) 50 [(0, .ref (ad 0)), (1, .int a.1), (6, .int a.2.1)] [] a.2.2 :=
  jx_loop_ind (J := fun a => jm_J p l e R s m args below meth c A D ck ad 8 (jm_Qv below args s A D ck ad sa out) 50 [(0, .ref (ad 0)), (1, .int a.1), (6, .int a.2.1)] [] a.2.2) (fun r hr a h => jm_chooses_L50_ok hX F rc hlr hl0 hrc hr a.1 a.2.1 a.2.2 h) n a h
theorem jm_chooses_b106_ok {out : jm_S} (hX : jm_Ok p R s m args meth c A D ck ad sa cX6_chooses 8 none lv) (F : Nat) (rc : Int32 × Int32 × Int32 × Int64 × jm_S → Option (jm_S)) {lv0 : Nat} (hlr : lv0 + 1 ≤ lv) (hl0 : 6 ≤ lv) (hrc : ∀ a q, rc a = some q → jm_Mv l D ck ad sa A yX6_chooses cX6_chooses 8 none lv0 [.int a.1, .int a.2.1, .int a.2.2.1, .long a.2.2.2.1] a.2.2.2.2 q) {r88 : Int32 × Int32 × Int32 × Int64 × Int32 × Int32 × jm_S → Option (jm_S)} (hr88 : ∀ a, r88 a = some out → jm_J p l e R s m args below meth c A D ck ad 8 (jm_Qv below args s A D ck ad sa out) 88 [(0, .ref (ad 0)), (1, .int a.1), (2, .int a.2.1), (3, .int a.2.2.1), (4, .long a.2.2.2.1), (6, .int a.2.2.2.2.1), (7, .int a.2.2.2.2.2.1)] [] a.2.2.2.2.2.2) (x1 : Int32) (x2 : Int32) (x3 : Int32) (x4 : Int64) (x6 : Int32) (x7 : Int32) (k0 : Int32) (k1 : Int32) (S : jm_S) (h : jm_chooses_b106 F rc r88 x1 x2 x3 x4 x6 x7 k0 k1 S = some out) : jm_J p l e R s m args below meth c A D ck ad 8 (jm_Qv below args s A D ck ad sa out) 106 [(0, .ref (ad 0)), (1, .int x1), (2, .int x2), (3, .int x3), (4, .long x4), (6, .int x6), (7, .int x7)] [.int k0, .int k1] S := by
  intro H locs ls hP hD hS hl
  have hX0 := hX
  obtain ⟨hx, hb, hml, hown, hts, hlk, hr, hlv, hK, hZ⟩ := hX0
  unfold jm_chooses_b106 at h
  refine lv_icmp_gt (tgt := 150) hx hb dX6_chooses_106 rfl (fun c1 => ?_) (fun c1 => ?_)
  · rw [if_pos c1] at h
    exact jm_vret hx hb hr hlk hK hZ hP hD hS h dX6_chooses_150
  · rw [if_neg c1] at h
    refine lv_aload_n hx hb dX6_chooses_109 rfl (lv_at hl 0 rfl) ?_
    refine jm_get hx hb hts hown hK hP jm_f39 (by decide) jm_g39 dX6_chooses_110 ?_
    refine lv_iload_n hx hb dX6_chooses_113 rfl (lv_at hl 1 rfl) ?_
    refine lv_iload hx hb dX6_chooses_114 (lv_at hl 6 rfl) ?_
    obtain ⟨j2, ej2, bj2, h⟩ := jx_ga_some h
    obtain ⟨S3, eS3, h⟩ := jx_nx_some h
    refine jm_iast hx hb hK hP hD hS jm_a39 (fun f => jm_u39 f) ej2 bj2 eS3 dX6_chooses_116 (fun H locs hP hD hS => ?_)
    refine lv_aload_n hx hb dX6_chooses_117 rfl (lv_at hl 0 rfl) ?_
    refine jm_get hx hb hts hown hK hP jm_f34 (by decide) jm_g34 dX6_chooses_118 ?_
    refine lv_iload hx hb dX6_chooses_121 (lv_at hl 5 rfl) ?_
    refine lv_iload hx hb dX6_chooses_123 (lv_at hl 6 rfl) ?_
    obtain ⟨j4, ej4, bj4, h⟩ := jx_ga_some h
    obtain ⟨S5, eS5, h⟩ := jx_nx_some h
    refine jm_iast hx hb hK hP hD hS jm_a34 (fun f => jm_u34 f) ej4 bj4 eS5 dX6_chooses_125 (fun H locs hP hD hS => ?_)
    refine lv_aload_n hx hb dX6_chooses_126 rfl (lv_at hl 0 rfl) ?_
    refine lv_iload_n hx hb dX6_chooses_127 rfl (lv_at hl 1 rfl) ?_
    refine lv_iconst hx hb dX6_chooses_128 jx_ki1 ?_
    refine lv_iadd hx hb dX6_chooses_129 ?_
    refine lv_iload_n hx hb dX6_chooses_130 rfl (lv_at hl 2 rfl) ?_
    refine lv_aload_n hx hb dX6_chooses_131 rfl (lv_at hl 0 rfl) ?_
    refine lv_iload hx hb dX6_chooses_132 (lv_at hl 6 rfl) ?_
    obtain ⟨q6, eq6, h⟩ := jx_bi_some h
    refine jm_callI hx hb hml hown hts hlv hK hZ (jm_ticksOf_met eq6) jm_ticksOf_g jm_ticksOf_d (As := [.int x7]) (Nat.le_trans (Nat.le_of_ble_eq_true rfl) hl0) (Nat.le_of_ble_eq_true rfl) hP hD hS hl.1 rfl rfl (lv_room (Nat.le_of_ble_eq_true rfl)) dX6_chooses_134 (fun H locs hP hD hS => ?_)
    refine lv_iadd hx hb dX6_chooses_137 ?_
    refine lv_iload_n hx hb dX6_chooses_138 rfl (lv_at hl 3 rfl) ?_
    refine lv_lload hx hb dX6_chooses_139 (lv_at hl 4 rfl) ?_
    obtain ⟨q7, eq7, h⟩ := jx_bi_some h
    refine jm_callV hx hb hml hown hts hlv hK hZ (hrc _ _ eq7) jm_chooses_g jm_chooses_d (As := [.int (x1 + (nI 1)), .int (x2 + q6.1), .int x3, .long x4]) hlr (Nat.le_of_ble_eq_true rfl) hP hD hS hl.1 rfl rfl (lv_room (Nat.le_of_ble_eq_true rfl)) dX6_chooses_141 (fun H locs hP hD hS => ?_)
    obtain ⟨y8, ey8, h⟩ := jx_nx_some h
    refine lv_iinc (v := y8) (lv' := [(7, .int y8), (0, .ref (ad 0)), (1, .int x1), (2, .int x2), (3, .int x3), (4, .long x4), (6, .int x6)]) hx hb dX6_chooses_144 hl (k := 6) rfl (jx_inc jx_ki1 ey8) (Nat.le_of_ble_eq_true rfl) rfl (fun ls hl => ?_)
    refine lv_goto (tgt := 88) hx hb dX6_chooses_147 rfl ?_
    exact hr88 _ h _ _ _ hP hD hS (lv_sub hl [1, 2, 3, 4, 5, 6, 0] rfl)
theorem jm_chooses_L88_ok {out : jm_S} (hX : jm_Ok p R s m args meth c A D ck ad sa cX6_chooses 8 none lv) (F : Nat) (rc : Int32 × Int32 × Int32 × Int64 × jm_S → Option (jm_S)) {lv0 : Nat} (hlr : lv0 + 1 ≤ lv) (hl0 : 6 ≤ lv) (hrc : ∀ a q, rc a = some q → jm_Mv l D ck ad sa A yX6_chooses cX6_chooses 8 none lv0 [.int a.1, .int a.2.1, .int a.2.2.1, .long a.2.2.2.1] a.2.2.2.2 q) {r88 : Int32 × Int32 × Int32 × Int64 × Int32 × Int32 × jm_S → Option (jm_S)} (hr88 : ∀ a, r88 a = some out → jm_J p l e R s m args below meth c A D ck ad 8 (jm_Qv below args s A D ck ad sa out) 88 [(0, .ref (ad 0)), (1, .int a.1), (2, .int a.2.1), (3, .int a.2.2.1), (4, .long a.2.2.2.1), (6, .int a.2.2.2.2.1), (7, .int a.2.2.2.2.2.1)] [] a.2.2.2.2.2.2) (x1 : Int32) (x2 : Int32) (x3 : Int32) (x4 : Int64) (x6 : Int32) (x7 : Int32) (S : jm_S) (h : jm_chooses_L88 F rc r88 x1 x2 x3 x4 x6 x7 S = some out) : jm_J p l e R s m args below meth c A D ck ad 8 (jm_Qv below args s A D ck ad sa out) 88 [(0, .ref (ad 0)), (1, .int x1), (2, .int x2), (3, .int x3), (4, .long x4), (6, .int x6), (7, .int x7)] [] S := by
  intro H locs ls hP hD hS hl
  have hX0 := hX
  obtain ⟨hx, hb, hml, hown, hts, hlk, hr, hlv, hK, hZ⟩ := hX0
  unfold jm_chooses_L88 at h
  refine lv_iload hx hb dX6_chooses_88 (lv_at hl 6 rfl) ?_
  refine lv_aload_n hx hb dX6_chooses_90 rfl (lv_at hl 0 rfl) ?_
  refine lv_iload hx hb dX6_chooses_91 (lv_at hl 5 rfl) ?_
  obtain ⟨q1, eq1, h⟩ := jx_bi_some h
  refine jm_callI hx hb hml hown hts hlv hK hZ (jm_wordOf_met eq1) jm_wordOf_g jm_wordOf_d (As := [.int x6]) (Nat.le_trans (Nat.le_of_ble_eq_true rfl) hl0) (Nat.le_of_ble_eq_true rfl) hP hD hS hl.1 rfl rfl (lv_room (Nat.le_of_ble_eq_true rfl)) dX6_chooses_93 (fun H locs hP hD hS => ?_)
  refine lv_bipush hx hb dX6_chooses_96 jx_kb7 ?_
  refine lv_icmp_ne (tgt := 105) hx hb dX6_chooses_98 rfl (fun c2 => ?_) (fun c2 => ?_)
  · rw [if_neg c2] at h
    refine lv_iconst hx hb dX6_chooses_105 jx_ki2 ?_
    exact jm_chooses_b106_ok hX F rc hlr hl0 hrc hr88 _ _ _ _ _ _ _ _ _ h _ _ _ hP hD hS hl
  · rw [if_pos c2] at h
    refine lv_iconst hx hb dX6_chooses_101 jx_ki3 ?_
    refine lv_goto (tgt := 106) hx hb dX6_chooses_102 rfl ?_
    exact jm_chooses_b106_ok hX F rc hlr hl0 hrc hr88 _ _ _ _ _ _ _ _ _ h _ _ _ hP hD hS hl
theorem jm_chooses_h88_ok {out : jm_S} (hX : jm_Ok p R s m args meth c A D ck ad sa cX6_chooses 8 none lv) (F : Nat) (rc : Int32 × Int32 × Int32 × Int64 × jm_S → Option (jm_S)) {lv0 : Nat} (hlr : lv0 + 1 ≤ lv) (hl0 : 6 ≤ lv) (hrc : ∀ a q, rc a = some q → jm_Mv l D ck ad sa A yX6_chooses cX6_chooses 8 none lv0 [.int a.1, .int a.2.1, .int a.2.2.1, .long a.2.2.2.1] a.2.2.2.2 q) (n : Nat) (a : Int32 × Int32 × Int32 × Int64 × Int32 × Int32 × jm_S) (h : jm_chooses_h88 F rc n a = some out) : jm_J p l e R s m args below meth c A D ck ad 8 (jm_Qv below args s A D ck ad sa out) 88 [(0, .ref (ad 0)), (1, .int a.1), (2, .int a.2.1), (3, .int a.2.2.1), (4, .long a.2.2.2.1), (6, .int a.2.2.2.2.1), (7, .int a.2.2.2.2.2.1)] [] a.2.2.2.2.2.2 :=
  jx_loop_ind (J := fun a => jm_J p l e R s m args below meth c A D ck ad 8 (jm_Qv below args s A D ck ad sa out) 88 [(0, .ref (ad 0)), (1, .int a.1), (2, .int a.2.1), (3, .int a.2.2.1), (4, .long a.2.2.2.1), (6, .int a.2.2.2.2.1), (7, .int a.2.2.2.2.2.1)] [] a.2.2.2.2.2.2) (fun r hr a h => jm_chooses_L88_ok hX F rc hlr hl0 hrc hr a.1 a.2.1 a.2.2.1 a.2.2.2.1 a.2.2.2.2.1 a.2.2.2.2.2.1 a.2.2.2.2.2.2 h) n a h
theorem jm_chooses_b16_ok {out : jm_S} (hX : jm_Ok p R s m args meth c A D ck ad sa cX6_chooses 8 none lv) (F : Nat) (rc : Int32 × Int32 × Int32 × Int64 × jm_S → Option (jm_S)) {lv0 : Nat} (hlr : lv0 + 1 ≤ lv) (hl0 : 6 ≤ lv) (hrc : ∀ a q, rc a = some q → jm_Mv l D ck ad sa A yX6_chooses cX6_chooses 8 none lv0 [.int a.1, .int a.2.1, .int a.2.2.1, .long a.2.2.2.1] a.2.2.2.2 q) (x1 : Int32) (x2 : Int32) (x3 : Int32) (x4 : Int64) (S : jm_S) (h : jm_chooses_b16 F rc x1 x2 x3 x4 S = some out) : jm_J p l e R s m args below meth c A D ck ad 8 (jm_Qv below args s A D ck ad sa out) 16 [(0, .ref (ad 0)), (1, .int x1), (2, .int x2), (3, .int x3), (4, .long x4)] [] S := by
  intro H locs ls hP hD hS hl
  have hX0 := hX
  obtain ⟨hx, hb, hml, hown, hts, hlk, hr, hlv, hK, hZ⟩ := hX0
  unfold jm_chooses_b16 at h
  refine lv_iload_n hx hb dX6_chooses_16 rfl (lv_at hl 1 rfl) ?_
  refine lv_aload_n hx hb dX6_chooses_17 rfl (lv_at hl 0 rfl) ?_
  refine jm_get hx hb hts hown hK hP jm_f42 (by decide) jm_g42 dX6_chooses_18 ?_
  refine lv_icmp_ne (tgt := 77) hx hb dX6_chooses_21 rfl (fun c1 => ?_) (fun c1 => ?_)
  · rw [if_neg c1] at h
    refine lv_aload_n hx hb dX6_chooses_77 rfl (lv_at hl 0 rfl) ?_
    refine jm_get hx hb hts hown hK hP jm_f41 (by decide) jm_g41 dX6_chooses_78 ?_
    refine lv_iload_n hx hb dX6_chooses_81 rfl (lv_at hl 1 rfl) ?_
    obtain ⟨j2, ej2, bj2, h⟩ := jx_ga_some h
    refine jm_iald hx hb hK hP jm_a41 ej2 bj2 dX6_chooses_82 ?_
    obtain ⟨y3, ey3, h⟩ := jx_nx_some h
    refine jx_topi ey3 ?_
    refine lv_istore (lv' := [(6, .int y3), (0, .ref (ad 0)), (1, .int x1), (2, .int x2), (3, .int x3), (4, .long x4)]) hx hb dX6_chooses_83 hl (Nat.le_of_ble_eq_true rfl) rfl (fun ls hl => ?_)
    refine lv_iconst hx hb dX6_chooses_85 jx_ki0 ?_
    obtain ⟨y4, ey4, h⟩ := jx_nx_some h
    refine jx_topi ey4 ?_
    refine lv_istore (lv' := [(7, .int y4), (6, .int y3), (0, .ref (ad 0)), (1, .int x1), (2, .int x2), (3, .int x3), (4, .long x4)]) hx hb dX6_chooses_86 hl (Nat.le_of_ble_eq_true rfl) rfl (fun ls hl => ?_)
    exact jm_chooses_h88_ok hX F rc hlr hl0 hrc F _ h _ _ _ hP hD hS (lv_sub hl [2, 3, 4, 5, 6, 1, 0] rfl)
  · rw [if_pos c1] at h
    refine lv_aload_n hx hb dX6_chooses_24 rfl (lv_at hl 0 rfl) ?_
    refine lv_iload_n hx hb dX6_chooses_25 rfl (lv_at hl 3 rfl) ?_
    obtain ⟨q5, eq5, h⟩ := jx_bi_some h
    refine jm_callV hx hb hml hown hts hlv hK hZ (jm_ways_met eq5) jm_ways_g jm_ways_d (As := [.int x3]) (Nat.le_trans (Nat.le_of_ble_eq_true rfl) hl0) (Nat.le_of_ble_eq_true rfl) hP hD hS hl.1 rfl rfl (lv_room (Nat.le_of_ble_eq_true rfl)) dX6_chooses_26 (fun H locs hP hD hS => ?_)
    refine lv_aload_n hx hb dX6_chooses_29 rfl (lv_at hl 0 rfl) ?_
    obtain ⟨q6, eq6, h⟩ := jx_bi_some h
    refine jm_callL hx hb hml hown hts hlv hK hZ (jm_closedSet_met eq6) jm_closedSet_g jm_closedSet_d (As := []) (Nat.le_trans (Nat.le_of_ble_eq_true rfl) hl0) (Nat.le_of_ble_eq_true rfl) hP hD hS hl.1 rfl rfl (lv_room (Nat.le_of_ble_eq_true rfl)) dX6_chooses_30 (fun H locs hP hD hS => ?_)
    refine lv_lload hx hb dX6_chooses_33 (lv_at hl 4 rfl) ?_
    refine lv_land hx hb dX6_chooses_35 ?_
    refine lv_lconst hx hb dX6_chooses_36 jx_kl0 ?_
    refine W.lcmp hx hb dX6_chooses_37 ?_
    refine lv_if_eq (tgt := 42) hx hb dX6_chooses_38 rfl (fun c7 => ?_) (fun c7 => ?_)
    · rw [if_pos c7] at h
      refine lv_aload_n hx hb dX6_chooses_42 rfl (lv_at hl 0 rfl) ?_
      refine lv_iload_n hx hb dX6_chooses_43 rfl (lv_at hl 2 rfl) ?_
      obtain ⟨S8, eS8, h⟩ := jx_nx_some h
      refine jm_put hx hb hts hown hK hP hD hS eS8 jm_f43 (by decide) jm_n43 jm_d43 jm_p43 dX6_chooses_44 (fun H locs hP hD hS => ?_)
      refine lv_iconst hx hb dX6_chooses_47 jx_ki0 ?_
      obtain ⟨y9, ey9, h⟩ := jx_nx_some h
      refine jx_topi ey9 ?_
      refine lv_istore (lv' := [(6, .int y9), (0, .ref (ad 0)), (1, .int x1), (2, .int x2), (3, .int x3), (4, .long x4)]) hx hb dX6_chooses_48 hl (Nat.le_of_ble_eq_true rfl) rfl (fun ls hl => ?_)
      exact jm_chooses_h50_ok hX F rc hlr hl0 hrc F _ h _ _ _ hP hD hS (lv_sub hl [1, 2, 0] rfl)
    · rw [if_neg c7] at h
      exact jm_vret hx hb hr hlk hK hZ hP hD hS h dX6_chooses_41
theorem jm_chooses_B_ok {out : jm_S} (hX : jm_Ok p R s m args meth c A D ck ad sa cX6_chooses 8 none lv) (F : Nat) (rc : Int32 × Int32 × Int32 × Int64 × jm_S → Option (jm_S)) {lv0 : Nat} (hlr : lv0 + 1 ≤ lv) (hl0 : 6 ≤ lv) (hrc : ∀ a q, rc a = some q → jm_Mv l D ck ad sa A yX6_chooses cX6_chooses 8 none lv0 [.int a.1, .int a.2.1, .int a.2.2.1, .long a.2.2.2.1] a.2.2.2.2 q) (x1 : Int32) (x2 : Int32) (x3 : Int32) (x4 : Int64) (S : jm_S) (h : jm_chooses_B F rc x1 x2 x3 x4 S = some out) : jm_J p l e R s m args below meth c A D ck ad 8 (jm_Qv below args s A D ck ad sa out) 0 [(0, .ref (ad 0)), (1, .int x1), (2, .int x2), (3, .int x3), (4, .long x4)] [] S := by
  intro H locs ls hP hD hS hl
  have hX0 := hX
  obtain ⟨hx, hb, hml, hown, hts, hlk, hr, hlv, hK, hZ⟩ := hX0
  unfold jm_chooses_B at h
  refine lv_aload_n hx hb dX6_chooses_0 rfl (lv_at hl 0 rfl) ?_
  refine jm_get hx hb hts hown hK hP jm_f43 (by decide) jm_g43 dX6_chooses_1 ?_
  refine lv_if_lt (tgt := 16) hx hb dX6_chooses_4 rfl (fun c1 => ?_) (fun c1 => ?_)
  · rw [if_pos c1] at h
    exact jm_chooses_b16_ok hX F rc hlr hl0 hrc _ _ _ _ _ h _ _ _ hP hD hS hl
  · rw [if_neg c1] at h
    refine lv_iload_n hx hb dX6_chooses_7 rfl (lv_at hl 2 rfl) ?_
    refine lv_aload_n hx hb dX6_chooses_8 rfl (lv_at hl 0 rfl) ?_
    refine jm_get hx hb hts hown hK hP jm_f43 (by decide) jm_g43 dX6_chooses_9 ?_
    refine lv_icmp_lt (tgt := 16) hx hb dX6_chooses_12 rfl (fun c2 => ?_) (fun c2 => ?_)
    · rw [if_pos c2] at h
      exact jm_chooses_b16_ok hX F rc hlr hl0 hrc _ _ _ _ _ h _ _ _ hP hD hS hl
    · rw [if_neg c2] at h
      exact jm_vret hx hb hr hlk hK hZ hP hD hS h dX6_chooses_15
theorem jm_chooses_metr {l : Launch} {D : va_G} {ck : Nat → ClassId} {ad sa : Nat → Nat} {A : Nat → Prop} {F : Nat} : ∀ (d : Nat) (a : Int32 × Int32 × Int32 × Int64 × jm_S) (out : jm_S), jx_loop (fun rc (a : Int32 × Int32 × Int32 × Int64 × jm_S) => jm_chooses_B F rc a.1 a.2.1 a.2.2.1 a.2.2.2.1 a.2.2.2.2) d a = some out → jm_Mv l D ck ad sa A yX6_chooses cX6_chooses 8 none (6 + d) [.int a.1, .int a.2.1, .int a.2.2.1, .long a.2.2.2.1] a.2.2.2.2 out := by
  intro d
  induction d with
  | zero => intro a out h; cases h
  | succ d ih =>
    intro a out h
    exact jm_Mv_of ⟨by decide, rfl, Nat.le_of_ble_eq_true rfl⟩ (fun hX => jm_chooses_B_ok hX F _ (Nat.le_refl _) (Nat.le_add_right _ _) (fun a q hq => ih a q hq) a.1 a.2.1 a.2.2.1 a.2.2.2.1 a.2.2.2.2 h)
theorem jm_chooses_met {l : Launch} {D : va_G} {ck : Nat → ClassId} {ad sa : Nat → Nat} {A : Nat → Prop} {F : Nat} {x1 : Int32} {x2 : Int32} {x3 : Int32} {x4 : Int64} {S : jm_S} {out : jm_S} (h : jm_chooses F 10 x1 x2 x3 x4 S = some out) : jm_Mv l D ck ad sa A yX6_chooses cX6_chooses 8 none 16 [.int x1, .int x2, .int x3, .long x4] S out := jm_chooses_metr 10 (x1, x2, x3, x4, S) out h
theorem jm_least_d : yX6_least.cls = RX6 ∧ yX6_least.cls ≠ "java/lang/invoke/MethodHandle" ∧ yX6_least.cls ≠ "java/lang/invoke/VarHandle" ∧ (parseMethodDescriptor yX6_least.desc).map (fun d => d.parameters.length) = some 3 := by decide +kernel
theorem jm_least_b113_ok {out : Int32 × jm_S} (hX : jm_Ok p R s m args meth c A D ck ad sa cX6_least 5 (some .int) 17) (F : Nat) {r65 : Int32 × Int32 × Int32 × Int32 × jm_S → Option (Int32 × jm_S)} (hr65 : ∀ a, r65 a = some out → jm_J p l e R s m args below meth c A D ck ad 5 (jm_Qi below args s A D ck ad sa out) 65 [(0, .ref (ad 0)), (1, .int a.1), (2, .int a.2.1), (3, .int a.2.2.1), (4, .int a.2.2.2.1)] [] a.2.2.2.2) (x1 : Int32) (x2 : Int32) (x3 : Int32) (x4 : Int32) (S : jm_S) (h : jm_least_b113 F r65 x1 x2 x3 x4 S = some out) : jm_J p l e R s m args below meth c A D ck ad 5 (jm_Qi below args s A D ck ad sa out) 113 [(0, .ref (ad 0)), (1, .int x1), (2, .int x2), (3, .int x3), (4, .int x4)] [] S := by
  intro H locs ls hP hD hS hl
  have hX0 := hX
  obtain ⟨hx, hb, hml, hown, hts, hlk, hr, hlv, hK, hZ⟩ := hX0
  unfold jm_least_b113 at h
  obtain ⟨y1, ey1, h⟩ := jx_nx_some h
  refine lv_iinc (v := y1) (lv' := [(4, .int y1), (0, .ref (ad 0)), (1, .int x1), (2, .int x2), (3, .int x3)]) hx hb dX6_least_113 hl (k := 4) rfl (jx_inc jx_ki1 ey1) (Nat.le_of_ble_eq_true rfl) rfl (fun ls hl => ?_)
  refine lv_goto (tgt := 65) hx hb dX6_least_116 rfl ?_
  exact hr65 _ h _ _ _ hP hD hS (lv_sub hl [1, 2, 3, 4, 0] rfl)
theorem jm_least_L156_ok {out : Int32 × jm_S} (hX : jm_Ok p R s m args meth c A D ck ad sa cX6_least 5 (some .int) 17) (F : Nat) {r156 : Int32 × Int32 × jm_S → Option (Int32 × jm_S)} (hr156 : ∀ a, r156 a = some out → jm_J p l e R s m args below meth c A D ck ad 5 (jm_Qi below args s A D ck ad sa out) 156 [(0, .ref (ad 0)), (3, .int a.1), (4, .int a.2.1)] [] a.2.2) (x3 : Int32) (x4 : Int32) (S : jm_S) (h : jm_least_L156 F r156 x3 x4 S = some out) : jm_J p l e R s m args below meth c A D ck ad 5 (jm_Qi below args s A D ck ad sa out) 156 [(0, .ref (ad 0)), (3, .int x3), (4, .int x4)] [] S := by
  intro H locs ls hP hD hS hl
  have hX0 := hX
  obtain ⟨hx, hb, hml, hown, hts, hlk, hr, hlv, hK, hZ⟩ := hX0
  unfold jm_least_L156 at h
  refine lv_iload hx hb dX6_least_156 (lv_at hl 2 rfl) ?_
  refine lv_aload_n hx hb dX6_least_158 rfl (lv_at hl 0 rfl) ?_
  refine jm_get hx hb hts hown hK hP jm_f42 (by decide) jm_g42 dX6_least_159 ?_
  refine lv_icmp_ge (tgt := 190) hx hb dX6_least_162 rfl (fun c1 => ?_) (fun c1 => ?_)
  · rw [if_pos c1] at h
    refine lv_iconst hx hb dX6_least_190 jx_kim1 ?_
    exact jm_iret hx hb hr hlk hK hZ hP hD hS h dX6_least_191
  · rw [if_neg c1] at h
    refine lv_aload_n hx hb dX6_least_165 rfl (lv_at hl 0 rfl) ?_
    refine jm_get hx hb hts hown hK hP jm_f41 (by decide) jm_g41 dX6_least_166 ?_
    refine lv_iload hx hb dX6_least_169 (lv_at hl 2 rfl) ?_
    obtain ⟨j2, ej2, bj2, h⟩ := jx_ga_some h
    refine jm_iald hx hb hK hP jm_a41 ej2 bj2 dX6_least_171 ?_
    refine lv_iload_n hx hb dX6_least_172 rfl (lv_at hl 1 rfl) ?_
    refine lv_icmp_ne (tgt := 184) hx hb dX6_least_173 rfl (fun c3 => ?_) (fun c3 => ?_)
    · rw [if_neg c3] at h
      obtain ⟨y4, ey4, h⟩ := jx_nx_some h
      refine lv_iinc (v := y4) (lv' := [(4, .int y4), (0, .ref (ad 0)), (3, .int x3)]) hx hb dX6_least_184 hl (k := 2) rfl (jx_inc jx_ki1 ey4) (Nat.le_of_ble_eq_true rfl) rfl (fun ls hl => ?_)
      refine lv_goto (tgt := 156) hx hb dX6_least_187 rfl ?_
      exact hr156 _ h _ _ _ hP hD hS (lv_sub hl [1, 2, 0] rfl)
    · rw [if_pos c3] at h
      refine lv_aload_n hx hb dX6_least_176 rfl (lv_at hl 0 rfl) ?_
      refine jm_get hx hb hts hown hK hP jm_f40 (by decide) jm_g40 dX6_least_177 ?_
      refine lv_iload hx hb dX6_least_180 (lv_at hl 2 rfl) ?_
      obtain ⟨j5, ej5, bj5, h⟩ := jx_ga_some h
      refine jm_iald hx hb hK hP jm_a40 ej5 bj5 dX6_least_182 ?_
      exact jm_iret hx hb hr hlk hK hZ hP hD hS h dX6_least_183
theorem jm_least_h156_ok {out : Int32 × jm_S} (hX : jm_Ok p R s m args meth c A D ck ad sa cX6_least 5 (some .int) 17) (F : Nat) (n : Nat) (a : Int32 × Int32 × jm_S) (h : jm_least_h156 F n a = some out) : jm_J p l e R s m args below meth c A D ck ad 5 (jm_Qi below args s A D ck ad sa out) 156 [(0, .ref (ad 0)), (3, .int a.1), (4, .int a.2.1)] [] a.2.2 :=
  jx_loop_ind (J := fun a => jm_J p l e R s m args below meth c A D ck ad 5 (jm_Qi below args s A D ck ad sa out) 156 [(0, .ref (ad 0)), (3, .int a.1), (4, .int a.2.1)] [] a.2.2) (fun r hr a h => jm_least_L156_ok hX F hr a.1 a.2.1 a.2.2 h) n a h
theorem jm_least_b119_ok {out : Int32 × jm_S} (hX : jm_Ok p R s m args meth c A D ck ad sa cX6_least 5 (some .int) 17) (F : Nat) (x1 : Int32) (x2 : Int32) (x3 : Int32) (S : jm_S) (h : jm_least_b119 F x1 x2 x3 S = some out) : jm_J p l e R s m args below meth c A D ck ad 5 (jm_Qi below args s A D ck ad sa out) 119 [(0, .ref (ad 0)), (1, .int x1), (2, .int x2), (3, .int x3)] [] S := by
  intro H locs ls hP hD hS hl
  have hX0 := hX
  obtain ⟨hx, hb, hml, hown, hts, hlk, hr, hlv, hK, hZ⟩ := hX0
  unfold jm_least_b119 at h
  refine lv_aload_n hx hb dX6_least_119 rfl (lv_at hl 0 rfl) ?_
  refine lv_iconst hx hb dX6_least_120 jx_kim1 ?_
  obtain ⟨S1, eS1, h⟩ := jx_nx_some h
  refine jm_put hx hb hts hown hK hP hD hS eS1 jm_f43 (by decide) jm_n43 jm_d43 jm_p43 dX6_least_121 (fun H locs hP hD hS => ?_)
  refine lv_aload_n hx hb dX6_least_124 rfl (lv_at hl 0 rfl) ?_
  refine lv_iconst hx hb dX6_least_125 jx_ki0 ?_
  refine lv_iconst hx hb dX6_least_126 jx_ki0 ?_
  refine lv_iload_n hx hb dX6_least_127 rfl (lv_at hl 1 rfl) ?_
  refine lv_aload_n hx hb dX6_least_128 rfl (lv_at hl 0 rfl) ?_
  refine lv_iload_n hx hb dX6_least_129 rfl (lv_at hl 2 rfl) ?_
  obtain ⟨q2, eq2, h⟩ := jx_bi_some h
  refine jm_callL hx hb hml hown hts hlv hK hZ (jm_doorsOf_met eq2) jm_doorsOf_g jm_doorsOf_d (As := [.int x2]) (Nat.le_of_ble_eq_true rfl) (Nat.le_of_ble_eq_true rfl) hP hD hS hl.1 rfl rfl (lv_room (Nat.le_of_ble_eq_true rfl)) dX6_least_130 (fun H locs hP hD hS => ?_)
  obtain ⟨q3, eq3, h⟩ := jx_bi_some h
  refine jm_callV hx hb hml hown hts hlv hK hZ (jm_chooses_met eq3) jm_chooses_g jm_chooses_d (As := [.int (nI 0), .int (nI 0), .int x1, .long q2.1]) (Nat.le_of_ble_eq_true rfl) (Nat.le_of_ble_eq_true rfl) hP hD hS hl.1 rfl rfl (lv_room (Nat.le_of_ble_eq_true rfl)) dX6_least_133 (fun H locs hP hD hS => ?_)
  refine lv_aload_n hx hb dX6_least_136 rfl (lv_at hl 0 rfl) ?_
  refine jm_get hx hb hts hown hK hP jm_f43 (by decide) jm_g43 dX6_least_137 ?_
  refine lv_if_lt (tgt := 148) hx hb dX6_least_140 rfl (fun c4 => ?_) (fun c4 => ?_)
  · rw [if_pos c4] at h
    refine lv_aload_n hx hb dX6_least_148 rfl (lv_at hl 0 rfl) ?_
    refine jm_get hx hb hts hown hK hP jm_f43 (by decide) jm_g43 dX6_least_149 ?_
    exact jm_iret hx hb hr hlk hK hZ hP hD hS h dX6_least_152
  · rw [if_neg c4] at h
    refine lv_iload_n hx hb dX6_least_143 rfl (lv_at hl 3 rfl) ?_
    refine lv_iconst hx hb dX6_least_144 jx_kim1 ?_
    refine lv_icmp_ne (tgt := 153) hx hb dX6_least_145 rfl (fun c5 => ?_) (fun c5 => ?_)
    · rw [if_neg c5] at h
      refine lv_iconst hx hb dX6_least_153 jx_ki0 ?_
      obtain ⟨y6, ey6, h⟩ := jx_nx_some h
      refine jx_topi ey6 ?_
      refine lv_istore (lv' := [(4, .int y6), (0, .ref (ad 0)), (1, .int x1), (2, .int x2), (3, .int x3)]) hx hb dX6_least_154 hl (Nat.le_of_ble_eq_true rfl) rfl (fun ls hl => ?_)
      exact jm_least_h156_ok hX F F _ h _ _ _ hP hD hS (lv_sub hl [1, 4, 0] rfl)
    · rw [if_pos c5] at h
      refine lv_aload_n hx hb dX6_least_148 rfl (lv_at hl 0 rfl) ?_
      refine jm_get hx hb hts hown hK hP jm_f43 (by decide) jm_g43 dX6_least_149 ?_
      exact jm_iret hx hb hr hlk hK hZ hP hD hS h dX6_least_152
theorem jm_least_L65_ok {out : Int32 × jm_S} (hX : jm_Ok p R s m args meth c A D ck ad sa cX6_least 5 (some .int) 17) (F : Nat) {r65 : Int32 × Int32 × Int32 × Int32 × jm_S → Option (Int32 × jm_S)} (hr65 : ∀ a, r65 a = some out → jm_J p l e R s m args below meth c A D ck ad 5 (jm_Qi below args s A D ck ad sa out) 65 [(0, .ref (ad 0)), (1, .int a.1), (2, .int a.2.1), (3, .int a.2.2.1), (4, .int a.2.2.2.1)] [] a.2.2.2.2) (x1 : Int32) (x2 : Int32) (x3 : Int32) (x4 : Int32) (S : jm_S) (h : jm_least_L65 F r65 x1 x2 x3 x4 S = some out) : jm_J p l e R s m args below meth c A D ck ad 5 (jm_Qi below args s A D ck ad sa out) 65 [(0, .ref (ad 0)), (1, .int x1), (2, .int x2), (3, .int x3), (4, .int x4)] [] S := by
  intro H locs ls hP hD hS hl
  have hX0 := hX
  obtain ⟨hx, hb, hml, hown, hts, hlk, hr, hlv, hK, hZ⟩ := hX0
  unfold jm_least_L65 at h
  refine lv_iload hx hb dX6_least_65 (lv_at hl 4 rfl) ?_
  refine lv_aload_n hx hb dX6_least_67 rfl (lv_at hl 0 rfl) ?_
  obtain ⟨q1, eq1, h⟩ := jx_bi_some h
  refine jm_callI hx hb hml hown hts hlv hK hZ (jm_orders_met eq1) jm_orders_g jm_orders_d (As := []) (Nat.le_of_ble_eq_true rfl) (Nat.le_of_ble_eq_true rfl) hP hD hS hl.1 rfl rfl (lv_room (Nat.le_of_ble_eq_true rfl)) dX6_least_68 (fun H locs hP hD hS => ?_)
  refine lv_icmp_ge (tgt := 119) hx hb dX6_least_71 rfl (fun c2 => ?_) (fun c2 => ?_)
  · rw [if_pos c2] at h
    exact jm_least_b119_ok hX F _ _ _ _ h _ _ _ hP hD hS (lv_sub hl [0, 1, 2, 3] rfl)
  · rw [if_neg c2] at h
    refine lv_aload_n hx hb dX6_least_74 rfl (lv_at hl 0 rfl) ?_
    refine jm_get hx hb hts hown hK hP jm_f42 (by decide) jm_g42 dX6_least_75 ?_
    refine lv_bipush hx hb dX6_least_78 jx_kb6 ?_
    refine lv_icmp_ge (tgt := 119) hx hb dX6_least_80 rfl (fun c3 => ?_) (fun c3 => ?_)
    · rw [if_pos c3] at h
      exact jm_least_b119_ok hX F _ _ _ _ h _ _ _ hP hD hS (lv_sub hl [0, 1, 2, 3] rfl)
    · rw [if_neg c3] at h
      refine lv_aload_n hx hb dX6_least_83 rfl (lv_at hl 0 rfl) ?_
      refine lv_iload hx hb dX6_least_84 (lv_at hl 4 rfl) ?_
      obtain ⟨q4, eq4, h⟩ := jx_bi_some h
      refine jm_callI hx hb hml hown hts hlv hK hZ (jm_isJump_met eq4) jm_isJump_g jm_isJump_d (As := [.int x4]) (Nat.le_of_ble_eq_true rfl) (Nat.le_of_ble_eq_true rfl) hP hD hS hl.1 rfl rfl (lv_room (Nat.le_of_ble_eq_true rfl)) dX6_least_86 (fun H locs hP hD hS => ?_)
      refine lv_if_eq (tgt := 113) hx hb dX6_least_89 rfl (fun c5 => ?_) (fun c5 => ?_)
      · rw [if_pos c5] at h
        exact jm_least_b113_ok hX F hr65 _ _ _ _ _ h _ _ _ hP hD hS hl
      · rw [if_neg c5] at h
        refine lv_aload_n hx hb dX6_least_92 rfl (lv_at hl 0 rfl) ?_
        refine jm_get hx hb hts hown hK hP jm_f41 (by decide) jm_g41 dX6_least_93 ?_
        refine lv_aload_n hx hb dX6_least_96 rfl (lv_at hl 0 rfl) ?_
        refine jm_get hx hb hts hown hK hP jm_f42 (by decide) jm_g42 dX6_least_97 ?_
        refine lv_iload hx hb dX6_least_100 (lv_at hl 4 rfl) ?_
        obtain ⟨j6, ej6, bj6, h⟩ := jx_ga_some h
        obtain ⟨S7, eS7, h⟩ := jx_nx_some h
        refine jm_iast hx hb hK hP hD hS jm_a41 (fun f => jm_u41 f) ej6 bj6 eS7 dX6_least_102 (fun H locs hP hD hS => ?_)
        refine lv_aload_n hx hb dX6_least_103 rfl (lv_at hl 0 rfl) ?_
        refine lv_dup hx hb dX6_least_104 rfl ?_
        refine jm_get hx hb hts hown hK hP jm_f42 (by decide) jm_g42 dX6_least_105 ?_
        refine lv_iconst hx hb dX6_least_108 jx_ki1 ?_
        refine lv_iadd hx hb dX6_least_109 ?_
        obtain ⟨S8, eS8, h⟩ := jx_nx_some h
        refine jm_put hx hb hts hown hK hP hD hS eS8 jm_f42 (by decide) jm_n42 jm_d42 jm_p42 dX6_least_110 (fun H locs hP hD hS => ?_)
        exact jm_least_b113_ok hX F hr65 _ _ _ _ _ h _ _ _ hP hD hS hl
theorem jm_least_h65_ok {out : Int32 × jm_S} (hX : jm_Ok p R s m args meth c A D ck ad sa cX6_least 5 (some .int) 17) (F : Nat) (n : Nat) (a : Int32 × Int32 × Int32 × Int32 × jm_S) (h : jm_least_h65 F n a = some out) : jm_J p l e R s m args below meth c A D ck ad 5 (jm_Qi below args s A D ck ad sa out) 65 [(0, .ref (ad 0)), (1, .int a.1), (2, .int a.2.1), (3, .int a.2.2.1), (4, .int a.2.2.2.1)] [] a.2.2.2.2 :=
  jx_loop_ind (J := fun a => jm_J p l e R s m args below meth c A D ck ad 5 (jm_Qi below args s A D ck ad sa out) 65 [(0, .ref (ad 0)), (1, .int a.1), (2, .int a.2.1), (3, .int a.2.2.1), (4, .int a.2.2.2.1)] [] a.2.2.2.2) (fun r hr a h => jm_least_L65_ok hX F hr a.1 a.2.1 a.2.2.1 a.2.2.2.1 a.2.2.2.2 h) n a h
theorem jm_least_b40_ok {out : Int32 × jm_S} (hX : jm_Ok p R s m args meth c A D ck ad sa cX6_least 5 (some .int) 17) (F : Nat) (x1 : Int32) (x2 : Int32) (x3 : Int32) (k0 : Int32) (S : jm_S) (h : jm_least_b40 F x1 x2 x3 k0 S = some out) : jm_J p l e R s m args below meth c A D ck ad 5 (jm_Qi below args s A D ck ad sa out) 40 [(0, .ref (ad 0)), (1, .int x1), (2, .int x2), (3, .int x3)] [.int k0, .ref (ad 0)] S := by
  intro H locs ls hP hD hS hl
  have hX0 := hX
  obtain ⟨hx, hb, hml, hown, hts, hlk, hr, hlv, hK, hZ⟩ := hX0
  unfold jm_least_b40 at h
  refine lv_iconst hx hb dX6_least_40 jx_ki1 ?_
  obtain ⟨q1, eq1, h⟩ := jx_bi_some h
  refine jm_callI hx hb hml hown hts hlv hK hZ (jm_throwsIf_met eq1) jm_throwsIf_g jm_throwsIf_d (As := [.int k0, .int (nI 1)]) (Nat.le_of_ble_eq_true rfl) (Nat.le_of_ble_eq_true rfl) hP hD hS hl.1 rfl rfl (lv_room (Nat.le_of_ble_eq_true rfl)) dX6_least_41 (fun H locs hP hD hS => ?_)
  refine lv_if_eq (tgt := 49) hx hb dX6_least_44 rfl (fun c2 => ?_) (fun c2 => ?_)
  · rw [if_pos c2] at h
    refine lv_aload_n hx hb dX6_least_49 rfl (lv_at hl 0 rfl) ?_
    obtain ⟨q3, eq3, h⟩ := jx_bi_some h
    refine jm_callV hx hb hml hown hts hlv hK hZ (jm_flows_met eq3) jm_flows_g jm_flows_d (As := []) (Nat.le_of_ble_eq_true rfl) (Nat.le_of_ble_eq_true rfl) hP hD hS hl.1 rfl rfl (lv_room (Nat.le_of_ble_eq_true rfl)) dX6_least_50 (fun H locs hP hD hS => ?_)
    refine lv_aload_n hx hb dX6_least_53 rfl (lv_at hl 0 rfl) ?_
    obtain ⟨q4, eq4, h⟩ := jx_bi_some h
    refine jm_callV hx hb hml hown hts hlv hK hZ (jm_gradesNow_met eq4) jm_gradesNow_g jm_gradesNow_d (As := []) (Nat.le_of_ble_eq_true rfl) (Nat.le_of_ble_eq_true rfl) hP hD hS hl.1 rfl rfl (lv_room (Nat.le_of_ble_eq_true rfl)) dX6_least_54 (fun H locs hP hD hS => ?_)
    refine lv_aload_n hx hb dX6_least_57 rfl (lv_at hl 0 rfl) ?_
    refine lv_iconst hx hb dX6_least_58 jx_ki0 ?_
    obtain ⟨S5, eS5, h⟩ := jx_nx_some h
    refine jm_put hx hb hts hown hK hP hD hS eS5 jm_f42 (by decide) jm_n42 jm_d42 jm_p42 dX6_least_59 (fun H locs hP hD hS => ?_)
    refine lv_iconst hx hb dX6_least_62 jx_ki0 ?_
    obtain ⟨y6, ey6, h⟩ := jx_nx_some h
    refine jx_topi ey6 ?_
    refine lv_istore (lv' := [(4, .int y6), (0, .ref (ad 0)), (1, .int x1), (2, .int x2), (3, .int x3)]) hx hb dX6_least_63 hl (Nat.le_of_ble_eq_true rfl) rfl (fun ls hl => ?_)
    exact jm_least_h65_ok hX F F _ h _ _ _ hP hD hS (lv_sub hl [1, 2, 3, 4, 0] rfl)
  · rw [if_neg c2] at h
    refine lv_iconst hx hb dX6_least_47 jx_ki0 ?_
    exact jm_iret hx hb hr hlk hK hZ hP hD hS h dX6_least_48
theorem jm_least_b35_ok {out : Int32 × jm_S} (hX : jm_Ok p R s m args meth c A D ck ad sa cX6_least 5 (some .int) 17) (F : Nat) (x1 : Int32) (x2 : Int32) (x3 : Int32) (S : jm_S) (h : jm_least_b35 F x1 x2 x3 S = some out) : jm_J p l e R s m args below meth c A D ck ad 5 (jm_Qi below args s A D ck ad sa out) 35 [(0, .ref (ad 0)), (1, .int x1), (2, .int x2), (3, .int x3)] [.ref (ad 0)] S := by
  intro H locs ls hP hD hS hl
  have hX0 := hX
  obtain ⟨hx, hb, hml, hown, hts, hlk, hr, hlv, hK, hZ⟩ := hX0
  unfold jm_least_b35 at h
  refine lv_iconst hx hb dX6_least_35 jx_ki1 ?_
  refine lv_goto (tgt := 40) hx hb dX6_least_36 rfl ?_
  exact jm_least_b40_ok hX F _ _ _ _ _ h _ _ _ hP hD hS hl
theorem jm_least_b39_ok {out : Int32 × jm_S} (hX : jm_Ok p R s m args meth c A D ck ad sa cX6_least 5 (some .int) 17) (F : Nat) (x1 : Int32) (x2 : Int32) (x3 : Int32) (S : jm_S) (h : jm_least_b39 F x1 x2 x3 S = some out) : jm_J p l e R s m args below meth c A D ck ad 5 (jm_Qi below args s A D ck ad sa out) 39 [(0, .ref (ad 0)), (1, .int x1), (2, .int x2), (3, .int x3)] [.ref (ad 0)] S := by
  intro H locs ls hP hD hS hl
  have hX0 := hX
  obtain ⟨hx, hb, hml, hown, hts, hlk, hr, hlv, hK, hZ⟩ := hX0
  unfold jm_least_b39 at h
  refine lv_iconst hx hb dX6_least_39 jx_ki0 ?_
  exact jm_least_b40_ok hX F _ _ _ _ _ h _ _ _ hP hD hS hl
theorem jm_least_ok {out : Int32 × jm_S} (hX : jm_Ok p R s m args meth c A D ck ad sa cX6_least 5 (some .int) 17) (F : Nat) (x1 : Int32) (x2 : Int32) (x3 : Int32) (S : jm_S) (h : jm_least F x1 x2 x3 S = some out) : jm_J p l e R s m args below meth c A D ck ad 5 (jm_Qi below args s A D ck ad sa out) 0 [(0, .ref (ad 0)), (1, .int x1), (2, .int x2), (3, .int x3)] [] S := by
  intro H locs ls hP hD hS hl
  have hX0 := hX
  obtain ⟨hx, hb, hml, hown, hts, hlk, hr, hlv, hK, hZ⟩ := hX0
  unfold jm_least at h
  refine lv_aload_n hx hb dX6_least_0 rfl (lv_at hl 0 rfl) ?_
  refine lv_iconst hx hb dX6_least_1 jx_ki0 ?_
  obtain ⟨S1, eS1, h⟩ := jx_nx_some h
  refine jm_put hx hb hts hown hK hP hD hS eS1 jm_f0 (by decide) jm_n0 jm_d0 jm_p0 dX6_least_2 (fun H locs hP hD hS => ?_)
  refine lv_aload_n hx hb dX6_least_5 rfl (lv_at hl 0 rfl) ?_
  refine lv_aload_n hx hb dX6_least_6 rfl (lv_at hl 0 rfl) ?_
  refine lv_iload_n hx hb dX6_least_7 rfl (lv_at hl 1 rfl) ?_
  obtain ⟨q2, eq2, h⟩ := jx_bi_some h
  refine jm_callI hx hb hml hown hts hlv hK hZ (jm_noPower_met eq2) jm_noPower_g jm_noPower_d (As := [.int x1]) (Nat.le_of_ble_eq_true rfl) (Nat.le_of_ble_eq_true rfl) hP hD hS hl.1 rfl rfl (lv_room (Nat.le_of_ble_eq_true rfl)) dX6_least_8 (fun H locs hP hD hS => ?_)
  refine lv_if_ne (tgt := 35) hx hb dX6_least_11 rfl (fun c3 => ?_) (fun c3 => ?_)
  · rw [if_neg c3] at h
    exact jm_least_b35_ok hX F _ _ _ _ h _ _ _ hP hD hS hl
  · rw [if_pos c3] at h
    refine lv_aload_n hx hb dX6_least_14 rfl (lv_at hl 0 rfl) ?_
    refine lv_iload_n hx hb dX6_least_15 rfl (lv_at hl 2 rfl) ?_
    obtain ⟨q4, eq4, h⟩ := jx_bi_some h
    refine jm_callI hx hb hml hown hts hlv hK hZ (jm_noHarm_met eq4) jm_noHarm_g jm_noHarm_d (As := [.int x2]) (Nat.le_of_ble_eq_true rfl) (Nat.le_of_ble_eq_true rfl) hP hD hS hl.1 rfl rfl (lv_room (Nat.le_of_ble_eq_true rfl)) dX6_least_16 (fun H locs hP hD hS => ?_)
    refine lv_if_ne (tgt := 35) hx hb dX6_least_19 rfl (fun c5 => ?_) (fun c5 => ?_)
    · rw [if_neg c5] at h
      exact jm_least_b35_ok hX F _ _ _ _ h _ _ _ hP hD hS hl
    · rw [if_pos c5] at h
      refine lv_iload_n hx hb dX6_least_22 rfl (lv_at hl 3 rfl) ?_
      refine lv_iconst hx hb dX6_least_23 jx_kim1 ?_
      refine lv_icmp_eq (tgt := 39) hx hb dX6_least_24 rfl (fun c6 => ?_) (fun c6 => ?_)
      · rw [if_pos c6] at h
        exact jm_least_b39_ok hX F _ _ _ _ h _ _ _ hP hD hS hl
      · rw [if_neg c6] at h
        refine lv_aload_n hx hb dX6_least_27 rfl (lv_at hl 0 rfl) ?_
        refine lv_iload_n hx hb dX6_least_28 rfl (lv_at hl 3 rfl) ?_
        obtain ⟨q7, eq7, h⟩ := jx_bi_some h
        refine jm_callI hx hb hml hown hts hlv hK hZ (jm_noOrder_met eq7) jm_noOrder_g jm_noOrder_d (As := [.int x3]) (Nat.le_of_ble_eq_true rfl) (Nat.le_of_ble_eq_true rfl) hP hD hS hl.1 rfl rfl (lv_room (Nat.le_of_ble_eq_true rfl)) dX6_least_29 (fun H locs hP hD hS => ?_)
        refine lv_if_eq (tgt := 39) hx hb dX6_least_32 rfl (fun c8 => ?_) (fun c8 => ?_)
        · rw [if_pos c8] at h
          exact jm_least_b39_ok hX F _ _ _ _ h _ _ _ hP hD hS hl
        · rw [if_neg c8] at h
          exact jm_least_b35_ok hX F _ _ _ _ h _ _ _ hP hD hS hl
theorem jm_least_met {l : Launch} {D : va_G} {ck : Nat → ClassId} {ad sa : Nat → Nat} {A : Nat → Prop} {F : Nat} {x1 : Int32} {x2 : Int32} {x3 : Int32} {S : jm_S} {out : Int32 × jm_S} (h : jm_least F x1 x2 x3 S = some out) : jm_Mi l D ck ad sa A yX6_least cX6_least 5 (some .int) 17 [.int x1, .int x2, .int x3] S out :=
  jm_Mi_of ⟨by decide, rfl, Nat.le_of_ble_eq_true rfl⟩ (fun hX => jm_least_ok hX F x1 x2 x3 S h)
theorem jm_gathers_d : yX6_gathers.cls = RX6 ∧ yX6_gathers.cls ≠ "java/lang/invoke/MethodHandle" ∧ yX6_gathers.cls ≠ "java/lang/invoke/VarHandle" ∧ (parseMethodDescriptor yX6_gathers.desc).map (fun d => d.parameters.length) = some 0 := by decide +kernel
theorem jm_gathers_g : GoodIn lw_all (wsV RX6 424 RX6 yX6_gathers (ws_ yX6_gathers cX6_gathers 2 none)) := lw_V q2077 q2079 qs98 q110 q2080
theorem jm_gathers_b69_ok {out : jm_S} (hX : jm_Ok p R s m args meth c A D ck ad sa cX6_gathers 2 none 9) (F : Nat) {r11 : Int32 × jm_S → Option (jm_S)} (hr11 : ∀ a, r11 a = some out → jm_J p l e R s m args below meth c A D ck ad 2 (jm_Qv below args s A D ck ad sa out) 11 [(0, .ref (ad 0)), (1, .int a.1)] [] a.2) (x1 : Int32) (S : jm_S) (h : jm_gathers_b69 F r11 x1 S = some out) : jm_J p l e R s m args below meth c A D ck ad 2 (jm_Qv below args s A D ck ad sa out) 69 [(0, .ref (ad 0)), (1, .int x1)] [] S := by
  intro H locs ls hP hD hS hl
  have hX0 := hX
  obtain ⟨hx, hb, hml, hown, hts, hlk, hr, hlv, hK, hZ⟩ := hX0
  unfold jm_gathers_b69 at h
  obtain ⟨y1, ey1, h⟩ := jx_nx_some h
  refine lv_iinc (v := y1) (lv' := [(1, .int y1), (0, .ref (ad 0))]) hx hb dX6_gathers_69 hl (k := 1) rfl (jx_inc jx_ki1 ey1) (Nat.le_of_ble_eq_true rfl) rfl (fun ls hl => ?_)
  refine lv_goto (tgt := 11) hx hb dX6_gathers_72 rfl ?_
  exact hr11 _ h _ _ _ hP hD hS (lv_sub hl [1, 0] rfl)
theorem jm_gathers_L11_ok {out : jm_S} (hX : jm_Ok p R s m args meth c A D ck ad sa cX6_gathers 2 none 9) (F : Nat) {r11 : Int32 × jm_S → Option (jm_S)} (hr11 : ∀ a, r11 a = some out → jm_J p l e R s m args below meth c A D ck ad 2 (jm_Qv below args s A D ck ad sa out) 11 [(0, .ref (ad 0)), (1, .int a.1)] [] a.2) (x1 : Int32) (S : jm_S) (h : jm_gathers_L11 F r11 x1 S = some out) : jm_J p l e R s m args below meth c A D ck ad 2 (jm_Qv below args s A D ck ad sa out) 11 [(0, .ref (ad 0)), (1, .int x1)] [] S := by
  intro H locs ls hP hD hS hl
  have hX0 := hX
  obtain ⟨hx, hb, hml, hown, hts, hlk, hr, hlv, hK, hZ⟩ := hX0
  unfold jm_gathers_L11 at h
  refine lv_iload_n hx hb dX6_gathers_11 rfl (lv_at hl 1 rfl) ?_
  refine lv_aload_n hx hb dX6_gathers_12 rfl (lv_at hl 0 rfl) ?_
  obtain ⟨q1, eq1, h⟩ := jx_bi_some h
  refine jm_callI hx hb hml hown hts hlv hK hZ (jm_orders_met eq1) jm_orders_g jm_orders_d (As := []) (Nat.le_of_ble_eq_true rfl) (Nat.le_of_ble_eq_true rfl) hP hD hS hl.1 rfl rfl (lv_room (Nat.le_of_ble_eq_true rfl)) dX6_gathers_13 (fun H locs hP hD hS => ?_)
  refine lv_icmp_ge (tgt := 75) hx hb dX6_gathers_16 rfl (fun c2 => ?_) (fun c2 => ?_)
  · rw [if_pos c2] at h
    exact jm_vret hx hb hr hlk hK hZ hP hD hS h dX6_gathers_75
  · rw [if_neg c2] at h
    refine lv_aload_n hx hb dX6_gathers_19 rfl (lv_at hl 0 rfl) ?_
    refine lv_iload_n hx hb dX6_gathers_20 rfl (lv_at hl 1 rfl) ?_
    obtain ⟨q3, eq3, h⟩ := jx_bi_some h
    refine jm_callI hx hb hml hown hts hlv hK hZ (jm_isJump_met eq3) jm_isJump_g jm_isJump_d (As := [.int x1]) (Nat.le_of_ble_eq_true rfl) (Nat.le_of_ble_eq_true rfl) hP hD hS hl.1 rfl rfl (lv_room (Nat.le_of_ble_eq_true rfl)) dX6_gathers_21 (fun H locs hP hD hS => ?_)
    refine lv_if_eq (tgt := 69) hx hb dX6_gathers_24 rfl (fun c4 => ?_) (fun c4 => ?_)
    · rw [if_pos c4] at h
      exact jm_gathers_b69_ok hX F hr11 _ _ h _ _ _ hP hD hS hl
    · rw [if_neg c4] at h
      refine lv_aload_n hx hb dX6_gathers_27 rfl (lv_at hl 0 rfl) ?_
      refine lv_iload_n hx hb dX6_gathers_28 rfl (lv_at hl 1 rfl) ?_
      refine lv_iconst hx hb dX6_gathers_29 jx_ki2 ?_
      obtain ⟨q5, eq5, h⟩ := jx_bi_some h
      refine jm_callI hx hb hml hown hts hlv hK hZ (jm_of_met eq5) jm_of_g jm_of_d (As := [.int x1, .int (nI 2)]) (Nat.le_of_ble_eq_true rfl) (Nat.le_of_ble_eq_true rfl) hP hD hS hl.1 rfl rfl (lv_room (Nat.le_of_ble_eq_true rfl)) dX6_gathers_30 (fun H locs hP hD hS => ?_)
      refine lv_if_ne (tgt := 39) hx hb dX6_gathers_33 rfl (fun c6 => ?_) (fun c6 => ?_)
      · rw [if_neg c6] at h
        refine lv_aload_n hx hb dX6_gathers_39 rfl (lv_at hl 0 rfl) ?_
        refine jm_get hx hb hts hown hK hP jm_f44 (by decide) jm_g44 dX6_gathers_40 ?_
        refine lv_aload_n hx hb dX6_gathers_43 rfl (lv_at hl 0 rfl) ?_
        refine jm_get hx hb hts hown hK hP jm_f45 (by decide) jm_g45 dX6_gathers_44 ?_
        refine lv_aload_n hx hb dX6_gathers_47 rfl (lv_at hl 0 rfl) ?_
        refine lv_iload_n hx hb dX6_gathers_48 rfl (lv_at hl 1 rfl) ?_
        refine lv_aload_n hx hb dX6_gathers_49 rfl (lv_at hl 0 rfl) ?_
        refine lv_iload_n hx hb dX6_gathers_50 rfl (lv_at hl 1 rfl) ?_
        refine lv_iconst hx hb dX6_gathers_51 jx_ki2 ?_
        obtain ⟨q7, eq7, h⟩ := jx_bi_some h
        refine jm_callI hx hb hml hown hts hlv hK hZ (jm_of_met eq7) jm_of_g jm_of_d (As := [.int x1, .int (nI 2)]) (Nat.le_of_ble_eq_true rfl) (Nat.le_of_ble_eq_true rfl) hP hD hS hl.1 rfl rfl (lv_room (Nat.le_of_ble_eq_true rfl)) dX6_gathers_52 (fun H locs hP hD hS => ?_)
        obtain ⟨q8, eq8, h⟩ := jx_bi_some h
        refine jm_callL hx hb hml hown hts hlv hK hZ (jm_letsBy_met eq8) jm_letsBy_g jm_letsBy_d (As := [.int x1, .int q7.1]) (Nat.le_of_ble_eq_true rfl) (Nat.le_of_ble_eq_true rfl) hP hD hS hl.1 rfl rfl (lv_room (Nat.le_of_ble_eq_true rfl)) dX6_gathers_55 (fun H locs hP hD hS => ?_)
        obtain ⟨j9, ej9, bj9, h⟩ := jx_ga_some h
        obtain ⟨S10, eS10, h⟩ := jx_nx_some h
        refine jm_last hx hb hK hP hD hS jm_a44 (fun f => jm_u44 f) ej9 bj9 eS10 dX6_gathers_58 (fun H locs hP hD hS => ?_)
        refine lv_aload_n hx hb dX6_gathers_59 rfl (lv_at hl 0 rfl) ?_
        refine lv_dup hx hb dX6_gathers_60 rfl ?_
        refine jm_get hx hb hts hown hK hP jm_f45 (by decide) jm_g45 dX6_gathers_61 ?_
        refine lv_iconst hx hb dX6_gathers_64 jx_ki1 ?_
        refine lv_iadd hx hb dX6_gathers_65 ?_
        obtain ⟨S11, eS11, h⟩ := jx_nx_some h
        refine jm_put hx hb hts hown hK hP hD hS eS11 jm_f45 (by decide) jm_n45 jm_d45 jm_p45 dX6_gathers_66 (fun H locs hP hD hS => ?_)
        exact jm_gathers_b69_ok hX F hr11 _ _ h _ _ _ hP hD hS hl
      · rw [if_pos c6] at h
        refine lv_goto (tgt := 69) hx hb dX6_gathers_36 rfl ?_
        exact jm_gathers_b69_ok hX F hr11 _ _ h _ _ _ hP hD hS hl
theorem jm_gathers_h11_ok {out : jm_S} (hX : jm_Ok p R s m args meth c A D ck ad sa cX6_gathers 2 none 9) (F : Nat) (n : Nat) (a : Int32 × jm_S) (h : jm_gathers_h11 F n a = some out) : jm_J p l e R s m args below meth c A D ck ad 2 (jm_Qv below args s A D ck ad sa out) 11 [(0, .ref (ad 0)), (1, .int a.1)] [] a.2 :=
  jx_loop_ind (J := fun a => jm_J p l e R s m args below meth c A D ck ad 2 (jm_Qv below args s A D ck ad sa out) 11 [(0, .ref (ad 0)), (1, .int a.1)] [] a.2) (fun r hr a h => jm_gathers_L11_ok hX F hr a.1 a.2 h) n a h
theorem jm_gathers_ok {out : jm_S} (hX : jm_Ok p R s m args meth c A D ck ad sa cX6_gathers 2 none 9) (F : Nat)  (S : jm_S) (h : jm_gathers F  S = some out) : jm_J p l e R s m args below meth c A D ck ad 2 (jm_Qv below args s A D ck ad sa out) 0 [(0, .ref (ad 0))] [] S := by
  intro H locs ls hP hD hS hl
  have hX0 := hX
  obtain ⟨hx, hb, hml, hown, hts, hlk, hr, hlv, hK, hZ⟩ := hX0
  unfold jm_gathers at h
  refine lv_aload_n hx hb dX6_gathers_0 rfl (lv_at hl 0 rfl) ?_
  obtain ⟨q1, eq1, h⟩ := jx_bi_some h
  refine jm_callV hx hb hml hown hts hlv hK hZ (jm_flows_met eq1) jm_flows_g jm_flows_d (As := []) (Nat.le_of_ble_eq_true rfl) (Nat.le_of_ble_eq_true rfl) hP hD hS hl.1 rfl rfl (lv_room (Nat.le_of_ble_eq_true rfl)) dX6_gathers_1 (fun H locs hP hD hS => ?_)
  refine lv_aload_n hx hb dX6_gathers_4 rfl (lv_at hl 0 rfl) ?_
  refine lv_iconst hx hb dX6_gathers_5 jx_ki0 ?_
  obtain ⟨S2, eS2, h⟩ := jx_nx_some h
  refine jm_put hx hb hts hown hK hP hD hS eS2 jm_f45 (by decide) jm_n45 jm_d45 jm_p45 dX6_gathers_6 (fun H locs hP hD hS => ?_)
  refine lv_iconst hx hb dX6_gathers_9 jx_ki0 ?_
  obtain ⟨y3, ey3, h⟩ := jx_nx_some h
  refine jx_topi ey3 ?_
  refine lv_istore_n (lv' := [(1, .int y3), (0, .ref (ad 0))]) hx hb dX6_gathers_10 rfl hl (Nat.le_of_ble_eq_true rfl) rfl (fun ls hl => ?_)
  exact jm_gathers_h11_ok hX F F _ h _ _ _ hP hD hS (lv_sub hl [1, 0] rfl)
theorem jm_gathers_met {l : Launch} {D : va_G} {ck : Nat → ClassId} {ad sa : Nat → Nat} {A : Nat → Prop} {F : Nat}  {S : jm_S} {out : jm_S} (h : jm_gathers F  S = some out) : jm_Mv l D ck ad sa A yX6_gathers cX6_gathers 2 none 9 [] S out :=
  jm_Mv_of ⟨by decide, rfl, Nat.le_of_ble_eq_true rfl⟩ (fun hX => jm_gathers_ok hX F  S h)
theorem jm_marks_d : yX6_marks.cls = RX6 ∧ yX6_marks.cls ≠ "java/lang/invoke/MethodHandle" ∧ yX6_marks.cls ≠ "java/lang/invoke/VarHandle" ∧ (parseMethodDescriptor yX6_marks.desc).map (fun d => d.parameters.length) = some 0 := by decide +kernel
theorem jm_marks_b101_ok {out : Int32 × jm_S} (hX : jm_Ok p R s m args meth c A D ck ad sa cX6_marks 4 (some .int) 10) (F : Nat) {r34 : Int32 × jm_S → Option (Int32 × jm_S)} (hr34 : ∀ a, r34 a = some out → jm_J p l e R s m args below meth c A D ck ad 4 (jm_Qi below args s A D ck ad sa out) 34 [(0, .ref (ad 0)), (1, .int a.1)] [] a.2) {r44 : Int32 × Int32 × jm_S → Option (Int32 × jm_S)} (hr44 : ∀ a, r44 a = some out → jm_J p l e R s m args below meth c A D ck ad 4 (jm_Qi below args s A D ck ad sa out) 44 [(0, .ref (ad 0)), (1, .int a.1), (2, .int a.2.1)] [] a.2.2) {r54 : Int32 × Int32 × Int32 × jm_S → Option (Int32 × jm_S)} (hr54 : ∀ a, r54 a = some out → jm_J p l e R s m args below meth c A D ck ad 4 (jm_Qi below args s A D ck ad sa out) 54 [(0, .ref (ad 0)), (1, .int a.1), (2, .int a.2.1), (3, .int a.2.2.1)] [] a.2.2.2) (x1 : Int32) (x2 : Int32) (x3 : Int32) (S : jm_S) (h : jm_marks_b101 F r34 r44 r54 x1 x2 x3 S = some out) : jm_J p l e R s m args below meth c A D ck ad 4 (jm_Qi below args s A D ck ad sa out) 101 [(0, .ref (ad 0)), (1, .int x1), (2, .int x2), (3, .int x3)] [] S := by
  intro H locs ls hP hD hS hl
  have hX0 := hX
  obtain ⟨hx, hb, hml, hown, hts, hlk, hr, hlv, hK, hZ⟩ := hX0
  unfold jm_marks_b101 at h
  obtain ⟨y1, ey1, h⟩ := jx_nx_some h
  refine lv_iinc (v := y1) (lv' := [(3, .int y1), (0, .ref (ad 0)), (1, .int x1), (2, .int x2)]) hx hb dX6_marks_101 hl (k := 3) rfl (jx_inc jx_ki1 ey1) (Nat.le_of_ble_eq_true rfl) rfl (fun ls hl => ?_)
  refine lv_goto (tgt := 54) hx hb dX6_marks_104 rfl ?_
  exact hr54 _ h _ _ _ hP hD hS (lv_sub hl [1, 2, 3, 0] rfl)
theorem jm_marks_L54_ok {out : Int32 × jm_S} (hX : jm_Ok p R s m args meth c A D ck ad sa cX6_marks 4 (some .int) 10) (F : Nat) {r34 : Int32 × jm_S → Option (Int32 × jm_S)} (hr34 : ∀ a, r34 a = some out → jm_J p l e R s m args below meth c A D ck ad 4 (jm_Qi below args s A D ck ad sa out) 34 [(0, .ref (ad 0)), (1, .int a.1)] [] a.2) {r44 : Int32 × Int32 × jm_S → Option (Int32 × jm_S)} (hr44 : ∀ a, r44 a = some out → jm_J p l e R s m args below meth c A D ck ad 4 (jm_Qi below args s A D ck ad sa out) 44 [(0, .ref (ad 0)), (1, .int a.1), (2, .int a.2.1)] [] a.2.2) {r54 : Int32 × Int32 × Int32 × jm_S → Option (Int32 × jm_S)} (hr54 : ∀ a, r54 a = some out → jm_J p l e R s m args below meth c A D ck ad 4 (jm_Qi below args s A D ck ad sa out) 54 [(0, .ref (ad 0)), (1, .int a.1), (2, .int a.2.1), (3, .int a.2.2.1)] [] a.2.2.2) (x1 : Int32) (x2 : Int32) (x3 : Int32) (S : jm_S) (h : jm_marks_L54 F r34 r44 r54 x1 x2 x3 S = some out) : jm_J p l e R s m args below meth c A D ck ad 4 (jm_Qi below args s A D ck ad sa out) 54 [(0, .ref (ad 0)), (1, .int x1), (2, .int x2), (3, .int x3)] [] S := by
  intro H locs ls hP hD hS hl
  have hX0 := hX
  obtain ⟨hx, hb, hml, hown, hts, hlk, hr, hlv, hK, hZ⟩ := hX0
  unfold jm_marks_L54 at h
  refine lv_iload_n hx hb dX6_marks_54 rfl (lv_at hl 3 rfl) ?_
  refine lv_aload_n hx hb dX6_marks_55 rfl (lv_at hl 0 rfl) ?_
  refine jm_get hx hb hts hown hK hP jm_f45 (by decide) jm_g45 dX6_marks_56 ?_
  refine lv_icmp_ge (tgt := 107) hx hb dX6_marks_59 rfl (fun c1 => ?_) (fun c1 => ?_)
  · rw [if_pos c1] at h
    obtain ⟨y2, ey2, h⟩ := jx_nx_some h
    refine lv_iinc (v := y2) (lv' := [(2, .int y2), (0, .ref (ad 0)), (1, .int x1), (3, .int x3)]) hx hb dX6_marks_107 hl (k := 2) rfl (jx_inc jx_ki1 ey2) (Nat.le_of_ble_eq_true rfl) rfl (fun ls hl => ?_)
    refine lv_goto (tgt := 44) hx hb dX6_marks_110 rfl ?_
    exact hr44 _ h _ _ _ hP hD hS (lv_sub hl [1, 2, 0] rfl)
  · rw [if_neg c1] at h
    refine lv_aload_n hx hb dX6_marks_62 rfl (lv_at hl 0 rfl) ?_
    refine jm_get hx hb hts hown hK hP jm_f44 (by decide) jm_g44 dX6_marks_63 ?_
    refine lv_iload_n hx hb dX6_marks_66 rfl (lv_at hl 2 rfl) ?_
    obtain ⟨j3, ej3, bj3, h⟩ := jx_ga_some h
    refine jm_lald hx hb hK hP jm_a44 ej3 bj3 dX6_marks_67 ?_
    refine lv_aload_n hx hb dX6_marks_68 rfl (lv_at hl 0 rfl) ?_
    refine jm_get hx hb hts hown hK hP jm_f44 (by decide) jm_g44 dX6_marks_69 ?_
    refine lv_iload_n hx hb dX6_marks_72 rfl (lv_at hl 3 rfl) ?_
    obtain ⟨j4, ej4, bj4, h⟩ := jx_ga_some h
    refine jm_lald hx hb hK hP jm_a44 ej4 bj4 dX6_marks_73 ?_
    refine lv_land hx hb dX6_marks_74 ?_
    refine lv_lconst hx hb dX6_marks_75 jx_kl0 ?_
    refine W.lcmp hx hb dX6_marks_76 ?_
    refine lv_if_eq (tgt := 101) hx hb dX6_marks_77 rfl (fun c5 => ?_) (fun c5 => ?_)
    · rw [if_pos c5] at h
      exact jm_marks_b101_ok hX F hr34 hr44 hr54 _ _ _ _ h _ _ _ hP hD hS hl
    · rw [if_neg c5] at h
      refine lv_aload_n hx hb dX6_marks_80 rfl (lv_at hl 0 rfl) ?_
      refine jm_get hx hb hts hown hK hP jm_f46 (by decide) jm_g46 dX6_marks_81 ?_
      refine lv_iload_n hx hb dX6_marks_84 rfl (lv_at hl 2 rfl) ?_
      refine lv_aload_n hx hb dX6_marks_85 rfl (lv_at hl 0 rfl) ?_
      refine jm_get hx hb hts hown hK hP jm_f46 (by decide) jm_g46 dX6_marks_86 ?_
      refine lv_iload_n hx hb dX6_marks_89 rfl (lv_at hl 2 rfl) ?_
      obtain ⟨j6, ej6, bj6, h⟩ := jx_ga_some h
      refine jm_iald hx hb hK hP jm_a46 ej6 bj6 dX6_marks_90 ?_
      refine lv_aload_n hx hb dX6_marks_91 rfl (lv_at hl 0 rfl) ?_
      refine jm_get hx hb hts hown hK hP jm_f46 (by decide) jm_g46 dX6_marks_92 ?_
      refine lv_iload_n hx hb dX6_marks_95 rfl (lv_at hl 3 rfl) ?_
      obtain ⟨j7, ej7, bj7, h⟩ := jx_ga_some h
      refine jm_iald hx hb hK hP jm_a46 ej7 bj7 dX6_marks_96 ?_
      refine va_mmin hx hb (hml.trans hl.1.symm) hown (hts _ q2081) (hts _ jx_mmin_s) (hts _ jx_mmin_i) (hts _ jx_mmin_c) (by rw [hlv]; decide) (by rw [hlv]; exact Nat.le_of_ble_eq_true rfl) (Nat.zero_le _) (Nat.zero_le _) dX6_marks_97 ?_
      obtain ⟨j9, ej9, bj9, h⟩ := jx_ga_some h
      obtain ⟨S10, eS10, h⟩ := jx_nx_some h
      refine jm_iast hx hb hK hP hD hS jm_a46 (fun f => jm_u46 f) ej9 bj9 eS10 dX6_marks_100 (fun H locs hP hD hS => ?_)
      exact jm_marks_b101_ok hX F hr34 hr44 hr54 _ _ _ _ h _ _ _ hP hD hS hl
theorem jm_marks_h54_ok {out : Int32 × jm_S} (hX : jm_Ok p R s m args meth c A D ck ad sa cX6_marks 4 (some .int) 10) (F : Nat) {r34 : Int32 × jm_S → Option (Int32 × jm_S)} (hr34 : ∀ a, r34 a = some out → jm_J p l e R s m args below meth c A D ck ad 4 (jm_Qi below args s A D ck ad sa out) 34 [(0, .ref (ad 0)), (1, .int a.1)] [] a.2) {r44 : Int32 × Int32 × jm_S → Option (Int32 × jm_S)} (hr44 : ∀ a, r44 a = some out → jm_J p l e R s m args below meth c A D ck ad 4 (jm_Qi below args s A D ck ad sa out) 44 [(0, .ref (ad 0)), (1, .int a.1), (2, .int a.2.1)] [] a.2.2) (n : Nat) (a : Int32 × Int32 × Int32 × jm_S) (h : jm_marks_h54 F r34 r44 n a = some out) : jm_J p l e R s m args below meth c A D ck ad 4 (jm_Qi below args s A D ck ad sa out) 54 [(0, .ref (ad 0)), (1, .int a.1), (2, .int a.2.1), (3, .int a.2.2.1)] [] a.2.2.2 :=
  jx_loop_ind (J := fun a => jm_J p l e R s m args below meth c A D ck ad 4 (jm_Qi below args s A D ck ad sa out) 54 [(0, .ref (ad 0)), (1, .int a.1), (2, .int a.2.1), (3, .int a.2.2.1)] [] a.2.2.2) (fun r hr a h => jm_marks_L54_ok hX F hr34 hr44 hr a.1 a.2.1 a.2.2.1 a.2.2.2 h) n a h
theorem jm_marks_L44_ok {out : Int32 × jm_S} (hX : jm_Ok p R s m args meth c A D ck ad sa cX6_marks 4 (some .int) 10) (F : Nat) {r34 : Int32 × jm_S → Option (Int32 × jm_S)} (hr34 : ∀ a, r34 a = some out → jm_J p l e R s m args below meth c A D ck ad 4 (jm_Qi below args s A D ck ad sa out) 34 [(0, .ref (ad 0)), (1, .int a.1)] [] a.2) {r44 : Int32 × Int32 × jm_S → Option (Int32 × jm_S)} (hr44 : ∀ a, r44 a = some out → jm_J p l e R s m args below meth c A D ck ad 4 (jm_Qi below args s A D ck ad sa out) 44 [(0, .ref (ad 0)), (1, .int a.1), (2, .int a.2.1)] [] a.2.2) (x1 : Int32) (x2 : Int32) (S : jm_S) (h : jm_marks_L44 F r34 r44 x1 x2 S = some out) : jm_J p l e R s m args below meth c A D ck ad 4 (jm_Qi below args s A D ck ad sa out) 44 [(0, .ref (ad 0)), (1, .int x1), (2, .int x2)] [] S := by
  intro H locs ls hP hD hS hl
  have hX0 := hX
  obtain ⟨hx, hb, hml, hown, hts, hlk, hr, hlv, hK, hZ⟩ := hX0
  unfold jm_marks_L44 at h
  refine lv_iload_n hx hb dX6_marks_44 rfl (lv_at hl 2 rfl) ?_
  refine lv_aload_n hx hb dX6_marks_45 rfl (lv_at hl 0 rfl) ?_
  refine jm_get hx hb hts hown hK hP jm_f45 (by decide) jm_g45 dX6_marks_46 ?_
  refine lv_icmp_ge (tgt := 113) hx hb dX6_marks_49 rfl (fun c1 => ?_) (fun c1 => ?_)
  · rw [if_pos c1] at h
    obtain ⟨y2, ey2, h⟩ := jx_nx_some h
    refine lv_iinc (v := y2) (lv' := [(1, .int y2), (0, .ref (ad 0)), (2, .int x2)]) hx hb dX6_marks_113 hl (k := 1) rfl (jx_inc jx_ki1 ey2) (Nat.le_of_ble_eq_true rfl) rfl (fun ls hl => ?_)
    refine lv_goto (tgt := 34) hx hb dX6_marks_116 rfl ?_
    exact hr34 _ h _ _ _ hP hD hS (lv_sub hl [1, 0] rfl)
  · rw [if_neg c1] at h
    refine lv_iconst hx hb dX6_marks_52 jx_ki0 ?_
    obtain ⟨y3, ey3, h⟩ := jx_nx_some h
    refine jx_topi ey3 ?_
    refine lv_istore_n (lv' := [(3, .int y3), (0, .ref (ad 0)), (1, .int x1), (2, .int x2)]) hx hb dX6_marks_53 rfl hl (Nat.le_of_ble_eq_true rfl) rfl (fun ls hl => ?_)
    exact jm_marks_h54_ok hX F hr34 hr44 F _ h _ _ _ hP hD hS (lv_sub hl [1, 2, 3, 0] rfl)
theorem jm_marks_h44_ok {out : Int32 × jm_S} (hX : jm_Ok p R s m args meth c A D ck ad sa cX6_marks 4 (some .int) 10) (F : Nat) {r34 : Int32 × jm_S → Option (Int32 × jm_S)} (hr34 : ∀ a, r34 a = some out → jm_J p l e R s m args below meth c A D ck ad 4 (jm_Qi below args s A D ck ad sa out) 34 [(0, .ref (ad 0)), (1, .int a.1)] [] a.2) (n : Nat) (a : Int32 × Int32 × jm_S) (h : jm_marks_h44 F r34 n a = some out) : jm_J p l e R s m args below meth c A D ck ad 4 (jm_Qi below args s A D ck ad sa out) 44 [(0, .ref (ad 0)), (1, .int a.1), (2, .int a.2.1)] [] a.2.2 :=
  jx_loop_ind (J := fun a => jm_J p l e R s m args below meth c A D ck ad 4 (jm_Qi below args s A D ck ad sa out) 44 [(0, .ref (ad 0)), (1, .int a.1), (2, .int a.2.1)] [] a.2.2) (fun r hr a h => jm_marks_L44_ok hX F hr34 hr a.1 a.2.1 a.2.2 h) n a h
theorem jm_marks_b147_ok {out : Int32 × jm_S} (hX : jm_Ok p R s m args meth c A D ck ad sa cX6_marks 4 (some .int) 10) (F : Nat) {r123 : Int32 × Int32 × jm_S → Option (Int32 × jm_S)} (hr123 : ∀ a, r123 a = some out → jm_J p l e R s m args below meth c A D ck ad 4 (jm_Qi below args s A D ck ad sa out) 123 [(0, .ref (ad 0)), (1, .int a.1), (2, .int a.2.1)] [] a.2.2) (x2 : Int32) (k0 : Int32) (k1 : Int32) (S : jm_S) (h : jm_marks_b147 F r123 x2 k0 k1 S = some out) : jm_J p l e R s m args below meth c A D ck ad 4 (jm_Qi below args s A D ck ad sa out) 147 [(0, .ref (ad 0)), (2, .int x2)] [.int k0, .int k1] S := by
  intro H locs ls hP hD hS hl
  have hX0 := hX
  obtain ⟨hx, hb, hml, hown, hts, hlk, hr, hlv, hK, hZ⟩ := hX0
  unfold jm_marks_b147 at h
  refine lv_iadd hx hb dX6_marks_147 ?_
  obtain ⟨y1, ey1, h⟩ := jx_nx_some h
  refine jx_topi ey1 ?_
  refine lv_istore_n (lv' := [(1, .int y1), (0, .ref (ad 0)), (2, .int x2)]) hx hb dX6_marks_148 rfl hl (Nat.le_of_ble_eq_true rfl) rfl (fun ls hl => ?_)
  obtain ⟨y2, ey2, h⟩ := jx_nx_some h
  refine lv_iinc (v := y2) (lv' := [(2, .int y2), (1, .int y1), (0, .ref (ad 0))]) hx hb dX6_marks_149 hl (k := 2) rfl (jx_inc jx_ki1 ey2) (Nat.le_of_ble_eq_true rfl) rfl (fun ls hl => ?_)
  refine lv_goto (tgt := 123) hx hb dX6_marks_152 rfl ?_
  exact hr123 _ h _ _ _ hP hD hS (lv_sub hl [2, 1, 0] rfl)
theorem jm_marks_L123_ok {out : Int32 × jm_S} (hX : jm_Ok p R s m args meth c A D ck ad sa cX6_marks 4 (some .int) 10) (F : Nat) {r123 : Int32 × Int32 × jm_S → Option (Int32 × jm_S)} (hr123 : ∀ a, r123 a = some out → jm_J p l e R s m args below meth c A D ck ad 4 (jm_Qi below args s A D ck ad sa out) 123 [(0, .ref (ad 0)), (1, .int a.1), (2, .int a.2.1)] [] a.2.2) (x1 : Int32) (x2 : Int32) (S : jm_S) (h : jm_marks_L123 F r123 x1 x2 S = some out) : jm_J p l e R s m args below meth c A D ck ad 4 (jm_Qi below args s A D ck ad sa out) 123 [(0, .ref (ad 0)), (1, .int x1), (2, .int x2)] [] S := by
  intro H locs ls hP hD hS hl
  have hX0 := hX
  obtain ⟨hx, hb, hml, hown, hts, hlk, hr, hlv, hK, hZ⟩ := hX0
  unfold jm_marks_L123 at h
  refine lv_iload_n hx hb dX6_marks_123 rfl (lv_at hl 2 rfl) ?_
  refine lv_aload_n hx hb dX6_marks_124 rfl (lv_at hl 0 rfl) ?_
  refine jm_get hx hb hts hown hK hP jm_f45 (by decide) jm_g45 dX6_marks_125 ?_
  refine lv_icmp_ge (tgt := 155) hx hb dX6_marks_128 rfl (fun c1 => ?_) (fun c1 => ?_)
  · rw [if_pos c1] at h
    refine lv_iload_n hx hb dX6_marks_155 rfl (lv_at hl 1 rfl) ?_
    exact jm_iret hx hb hr hlk hK hZ hP hD hS h dX6_marks_156
  · rw [if_neg c1] at h
    refine lv_iload_n hx hb dX6_marks_131 rfl (lv_at hl 1 rfl) ?_
    refine lv_aload_n hx hb dX6_marks_132 rfl (lv_at hl 0 rfl) ?_
    refine jm_get hx hb hts hown hK hP jm_f46 (by decide) jm_g46 dX6_marks_133 ?_
    refine lv_iload_n hx hb dX6_marks_136 rfl (lv_at hl 2 rfl) ?_
    obtain ⟨j2, ej2, bj2, h⟩ := jx_ga_some h
    refine jm_iald hx hb hK hP jm_a46 ej2 bj2 dX6_marks_137 ?_
    refine lv_iload_n hx hb dX6_marks_138 rfl (lv_at hl 2 rfl) ?_
    refine lv_icmp_ne (tgt := 146) hx hb dX6_marks_139 rfl (fun c3 => ?_) (fun c3 => ?_)
    · rw [if_neg c3] at h
      refine lv_iconst hx hb dX6_marks_146 jx_ki0 ?_
      exact jm_marks_b147_ok hX F hr123 _ _ _ _ h _ _ _ hP hD hS (lv_sub hl [0, 2] rfl)
    · rw [if_pos c3] at h
      refine lv_iconst hx hb dX6_marks_142 jx_ki1 ?_
      refine lv_goto (tgt := 147) hx hb dX6_marks_143 rfl ?_
      exact jm_marks_b147_ok hX F hr123 _ _ _ _ h _ _ _ hP hD hS (lv_sub hl [0, 2] rfl)
theorem jm_marks_h123_ok {out : Int32 × jm_S} (hX : jm_Ok p R s m args meth c A D ck ad sa cX6_marks 4 (some .int) 10) (F : Nat) (n : Nat) (a : Int32 × Int32 × jm_S) (h : jm_marks_h123 F n a = some out) : jm_J p l e R s m args below meth c A D ck ad 4 (jm_Qi below args s A D ck ad sa out) 123 [(0, .ref (ad 0)), (1, .int a.1), (2, .int a.2.1)] [] a.2.2 :=
  jx_loop_ind (J := fun a => jm_J p l e R s m args below meth c A D ck ad 4 (jm_Qi below args s A D ck ad sa out) 123 [(0, .ref (ad 0)), (1, .int a.1), (2, .int a.2.1)] [] a.2.2) (fun r hr a h => jm_marks_L123_ok hX F hr a.1 a.2.1 a.2.2 h) n a h
theorem jm_marks_L34_ok {out : Int32 × jm_S} (hX : jm_Ok p R s m args meth c A D ck ad sa cX6_marks 4 (some .int) 10) (F : Nat) {r34 : Int32 × jm_S → Option (Int32 × jm_S)} (hr34 : ∀ a, r34 a = some out → jm_J p l e R s m args below meth c A D ck ad 4 (jm_Qi below args s A D ck ad sa out) 34 [(0, .ref (ad 0)), (1, .int a.1)] [] a.2) (x1 : Int32) (S : jm_S) (h : jm_marks_L34 F r34 x1 S = some out) : jm_J p l e R s m args below meth c A D ck ad 4 (jm_Qi below args s A D ck ad sa out) 34 [(0, .ref (ad 0)), (1, .int x1)] [] S := by
  intro H locs ls hP hD hS hl
  have hX0 := hX
  obtain ⟨hx, hb, hml, hown, hts, hlk, hr, hlv, hK, hZ⟩ := hX0
  unfold jm_marks_L34 at h
  refine lv_iload_n hx hb dX6_marks_34 rfl (lv_at hl 1 rfl) ?_
  refine lv_aload_n hx hb dX6_marks_35 rfl (lv_at hl 0 rfl) ?_
  refine jm_get hx hb hts hown hK hP jm_f45 (by decide) jm_g45 dX6_marks_36 ?_
  refine lv_icmp_ge (tgt := 119) hx hb dX6_marks_39 rfl (fun c1 => ?_) (fun c1 => ?_)
  · rw [if_pos c1] at h
    refine lv_iconst hx hb dX6_marks_119 jx_ki0 ?_
    obtain ⟨y2, ey2, h⟩ := jx_nx_some h
    refine jx_topi ey2 ?_
    refine lv_istore_n (lv' := [(1, .int y2), (0, .ref (ad 0))]) hx hb dX6_marks_120 rfl hl (Nat.le_of_ble_eq_true rfl) rfl (fun ls hl => ?_)
    refine lv_iconst hx hb dX6_marks_121 jx_ki0 ?_
    obtain ⟨y3, ey3, h⟩ := jx_nx_some h
    refine jx_topi ey3 ?_
    refine lv_istore_n (lv' := [(2, .int y3), (1, .int y2), (0, .ref (ad 0))]) hx hb dX6_marks_122 rfl hl (Nat.le_of_ble_eq_true rfl) rfl (fun ls hl => ?_)
    exact jm_marks_h123_ok hX F F _ h _ _ _ hP hD hS (lv_sub hl [2, 1, 0] rfl)
  · rw [if_neg c1] at h
    refine lv_iconst hx hb dX6_marks_42 jx_ki0 ?_
    obtain ⟨y4, ey4, h⟩ := jx_nx_some h
    refine jx_topi ey4 ?_
    refine lv_istore_n (lv' := [(2, .int y4), (0, .ref (ad 0)), (1, .int x1)]) hx hb dX6_marks_43 rfl hl (Nat.le_of_ble_eq_true rfl) rfl (fun ls hl => ?_)
    exact jm_marks_h44_ok hX F hr34 F _ h _ _ _ hP hD hS (lv_sub hl [1, 2, 0] rfl)
theorem jm_marks_h34_ok {out : Int32 × jm_S} (hX : jm_Ok p R s m args meth c A D ck ad sa cX6_marks 4 (some .int) 10) (F : Nat) (n : Nat) (a : Int32 × jm_S) (h : jm_marks_h34 F n a = some out) : jm_J p l e R s m args below meth c A D ck ad 4 (jm_Qi below args s A D ck ad sa out) 34 [(0, .ref (ad 0)), (1, .int a.1)] [] a.2 :=
  jx_loop_ind (J := fun a => jm_J p l e R s m args below meth c A D ck ad 4 (jm_Qi below args s A D ck ad sa out) 34 [(0, .ref (ad 0)), (1, .int a.1)] [] a.2) (fun r hr a h => jm_marks_L34_ok hX F hr a.1 a.2 h) n a h
theorem jm_marks_L11_ok {out : Int32 × jm_S} (hX : jm_Ok p R s m args meth c A D ck ad sa cX6_marks 4 (some .int) 10) (F : Nat) {r11 : Int32 × jm_S → Option (Int32 × jm_S)} (hr11 : ∀ a, r11 a = some out → jm_J p l e R s m args below meth c A D ck ad 4 (jm_Qi below args s A D ck ad sa out) 11 [(0, .ref (ad 0)), (1, .int a.1)] [] a.2) (x1 : Int32) (S : jm_S) (h : jm_marks_L11 F r11 x1 S = some out) : jm_J p l e R s m args below meth c A D ck ad 4 (jm_Qi below args s A D ck ad sa out) 11 [(0, .ref (ad 0)), (1, .int x1)] [] S := by
  intro H locs ls hP hD hS hl
  have hX0 := hX
  obtain ⟨hx, hb, hml, hown, hts, hlk, hr, hlv, hK, hZ⟩ := hX0
  unfold jm_marks_L11 at h
  refine lv_iload_n hx hb dX6_marks_11 rfl (lv_at hl 1 rfl) ?_
  refine lv_aload_n hx hb dX6_marks_12 rfl (lv_at hl 0 rfl) ?_
  refine jm_get hx hb hts hown hK hP jm_f45 (by decide) jm_g45 dX6_marks_13 ?_
  refine lv_icmp_ge (tgt := 32) hx hb dX6_marks_16 rfl (fun c1 => ?_) (fun c1 => ?_)
  · rw [if_pos c1] at h
    refine lv_iconst hx hb dX6_marks_32 jx_ki0 ?_
    obtain ⟨y2, ey2, h⟩ := jx_nx_some h
    refine jx_topi ey2 ?_
    refine lv_istore_n (lv' := [(1, .int y2), (0, .ref (ad 0))]) hx hb dX6_marks_33 rfl hl (Nat.le_of_ble_eq_true rfl) rfl (fun ls hl => ?_)
    exact jm_marks_h34_ok hX F F _ h _ _ _ hP hD hS (lv_sub hl [1, 0] rfl)
  · rw [if_neg c1] at h
    refine lv_aload_n hx hb dX6_marks_19 rfl (lv_at hl 0 rfl) ?_
    refine jm_get hx hb hts hown hK hP jm_f46 (by decide) jm_g46 dX6_marks_20 ?_
    refine lv_iload_n hx hb dX6_marks_23 rfl (lv_at hl 1 rfl) ?_
    refine lv_iload_n hx hb dX6_marks_24 rfl (lv_at hl 1 rfl) ?_
    obtain ⟨j3, ej3, bj3, h⟩ := jx_ga_some h
    obtain ⟨S4, eS4, h⟩ := jx_nx_some h
    refine jm_iast hx hb hK hP hD hS jm_a46 (fun f => jm_u46 f) ej3 bj3 eS4 dX6_marks_25 (fun H locs hP hD hS => ?_)
    obtain ⟨y5, ey5, h⟩ := jx_nx_some h
    refine lv_iinc (v := y5) (lv' := [(1, .int y5), (0, .ref (ad 0))]) hx hb dX6_marks_26 hl (k := 1) rfl (jx_inc jx_ki1 ey5) (Nat.le_of_ble_eq_true rfl) rfl (fun ls hl => ?_)
    refine lv_goto (tgt := 11) hx hb dX6_marks_29 rfl ?_
    exact hr11 _ h _ _ _ hP hD hS (lv_sub hl [1, 0] rfl)
theorem jm_marks_h11_ok {out : Int32 × jm_S} (hX : jm_Ok p R s m args meth c A D ck ad sa cX6_marks 4 (some .int) 10) (F : Nat) (n : Nat) (a : Int32 × jm_S) (h : jm_marks_h11 F n a = some out) : jm_J p l e R s m args below meth c A D ck ad 4 (jm_Qi below args s A D ck ad sa out) 11 [(0, .ref (ad 0)), (1, .int a.1)] [] a.2 :=
  jx_loop_ind (J := fun a => jm_J p l e R s m args below meth c A D ck ad 4 (jm_Qi below args s A D ck ad sa out) 11 [(0, .ref (ad 0)), (1, .int a.1)] [] a.2) (fun r hr a h => jm_marks_L11_ok hX F hr a.1 a.2 h) n a h
theorem jm_marks_ok {out : Int32 × jm_S} (hX : jm_Ok p R s m args meth c A D ck ad sa cX6_marks 4 (some .int) 10) (F : Nat)  (S : jm_S) (h : jm_marks F  S = some out) : jm_J p l e R s m args below meth c A D ck ad 4 (jm_Qi below args s A D ck ad sa out) 0 [(0, .ref (ad 0))] [] S := by
  intro H locs ls hP hD hS hl
  have hX0 := hX
  obtain ⟨hx, hb, hml, hown, hts, hlk, hr, hlv, hK, hZ⟩ := hX0
  unfold jm_marks at h
  refine lv_aload_n hx hb dX6_marks_0 rfl (lv_at hl 0 rfl) ?_
  refine lv_iconst hx hb dX6_marks_1 jx_ki0 ?_
  obtain ⟨S1, eS1, h⟩ := jx_nx_some h
  refine jm_put hx hb hts hown hK hP hD hS eS1 jm_f0 (by decide) jm_n0 jm_d0 jm_p0 dX6_marks_2 (fun H locs hP hD hS => ?_)
  refine lv_aload_n hx hb dX6_marks_5 rfl (lv_at hl 0 rfl) ?_
  obtain ⟨q2, eq2, h⟩ := jx_bi_some h
  refine jm_callV hx hb hml hown hts hlv hK hZ (jm_gathers_met eq2) jm_gathers_g jm_gathers_d (As := []) (Nat.le_of_ble_eq_true rfl) (Nat.le_of_ble_eq_true rfl) hP hD hS hl.1 rfl rfl (lv_room (Nat.le_of_ble_eq_true rfl)) dX6_marks_6 (fun H locs hP hD hS => ?_)
  refine lv_iconst hx hb dX6_marks_9 jx_ki0 ?_
  obtain ⟨y3, ey3, h⟩ := jx_nx_some h
  refine jx_topi ey3 ?_
  refine lv_istore_n (lv' := [(1, .int y3), (0, .ref (ad 0))]) hx hb dX6_marks_10 rfl hl (Nat.le_of_ble_eq_true rfl) rfl (fun ls hl => ?_)
  exact jm_marks_h11_ok hX F F _ h _ _ _ hP hD hS (lv_sub hl [1, 0] rfl)
theorem jm_marks_met {l : Launch} {D : va_G} {ck : Nat → ClassId} {ad sa : Nat → Nat} {A : Nat → Prop} {F : Nat}  {S : jm_S} {out : Int32 × jm_S} (h : jm_marks F  S = some out) : jm_Mi l D ck ad sa A yX6_marks cX6_marks 4 (some .int) 10 [] S out :=
  jm_Mi_of ⟨by decide, rfl, Nat.le_of_ble_eq_true rfl⟩ (fun hX => jm_marks_ok hX F  S h)
theorem jm_parts_d : yX6_parts.cls = RX6 ∧ yX6_parts.cls ≠ "java/lang/invoke/MethodHandle" ∧ yX6_parts.cls ≠ "java/lang/invoke/VarHandle" ∧ (parseMethodDescriptor yX6_parts.desc).map (fun d => d.parameters.length) = some 3 := by decide +kernel
theorem jm_parts_g : GoodIn lw_all (wsV RX6 441 RX6 yX6_parts (ws_ yX6_parts cX6_parts 8 none)) := lw_V q2086 q2088 qs99 q110 q2089
theorem jm_parts_L51_ok {out : jm_S} (hX : jm_Ok p R s m args meth c A D ck ad sa cX6_parts 8 none lv) (F : Nat) (rc : Int32 × Int32 × Int32 × jm_S → Option (jm_S)) {lv0 : Nat} (hlr : lv0 + 1 ≤ lv) (hl0 : 1 ≤ lv) (hrc : ∀ a q, rc a = some q → jm_Mv l D ck ad sa A yX6_parts cX6_parts 8 none lv0 [.int a.1, .int a.2.1, .int a.2.2.1] a.2.2.2 q) {r19 : Int32 × Int32 × Int32 × Int32 × jm_S → Option (jm_S)} (hr19 : ∀ a, r19 a = some out → jm_J p l e R s m args below meth c A D ck ad 8 (jm_Qv below args s A D ck ad sa out) 19 [(0, .ref (ad 0)), (1, .int a.1), (2, .int a.2.1), (4, .int a.2.2.1), (5, .int a.2.2.2.1)] [] a.2.2.2.2) {r51 : Int32 × Int32 × Int32 × Int32 × Int32 × jm_S → Option (jm_S)} (hr51 : ∀ a, r51 a = some out → jm_J p l e R s m args below meth c A D ck ad 8 (jm_Qv below args s A D ck ad sa out) 51 [(0, .ref (ad 0)), (1, .int a.1), (2, .int a.2.1), (4, .int a.2.2.1), (5, .int a.2.2.2.1), (6, .int a.2.2.2.2.1)] [] a.2.2.2.2.2) (x1 : Int32) (x2 : Int32) (x4 : Int32) (x5 : Int32) (x6 : Int32) (S : jm_S) (h : jm_parts_L51 F rc r19 r51 x1 x2 x4 x5 x6 S = some out) : jm_J p l e R s m args below meth c A D ck ad 8 (jm_Qv below args s A D ck ad sa out) 51 [(0, .ref (ad 0)), (1, .int x1), (2, .int x2), (4, .int x4), (5, .int x5), (6, .int x6)] [] S := by
  intro H locs ls hP hD hS hl
  have hX0 := hX
  obtain ⟨hx, hb, hml, hown, hts, hlk, hr, hlv, hK, hZ⟩ := hX0
  unfold jm_parts_L51 at h
  refine lv_iload hx hb dX6_parts_51 (lv_at hl 5 rfl) ?_
  refine lv_iload hx hb dX6_parts_53 (lv_at hl 4 rfl) ?_
  refine lv_icmp_ge (tgt := 85) hx hb dX6_parts_55 rfl (fun c1 => ?_) (fun c1 => ?_)
  · rw [if_pos c1] at h
    obtain ⟨y2, ey2, h⟩ := jx_nx_some h
    refine lv_iinc (v := y2) (lv' := [(5, .int y2), (0, .ref (ad 0)), (1, .int x1), (2, .int x2), (4, .int x4), (6, .int x6)]) hx hb dX6_parts_85 hl (k := 4) rfl (jx_inc jx_ki1 ey2) (Nat.le_of_ble_eq_true rfl) rfl (fun ls hl => ?_)
    refine lv_goto (tgt := 19) hx hb dX6_parts_88 rfl ?_
    exact hr19 _ h _ _ _ hP hD hS (lv_sub hl [1, 2, 3, 4, 0] rfl)
  · rw [if_neg c1] at h
    refine lv_aload_n hx hb dX6_parts_58 rfl (lv_at hl 0 rfl) ?_
    refine jm_get hx hb hts hown hK hP jm_f47 (by decide) jm_g47 dX6_parts_59 ?_
    refine lv_iload hx hb dX6_parts_62 (lv_at hl 4 rfl) ?_
    obtain ⟨j3, ej3, bj3, h⟩ := jx_ga_some h
    refine jm_lald hx hb hK hP jm_a47 ej3 bj3 dX6_parts_64 ?_
    refine lv_aload_n hx hb dX6_parts_65 rfl (lv_at hl 0 rfl) ?_
    refine jm_get hx hb hts hown hK hP jm_f47 (by decide) jm_g47 dX6_parts_66 ?_
    refine lv_iload hx hb dX6_parts_69 (lv_at hl 5 rfl) ?_
    obtain ⟨j4, ej4, bj4, h⟩ := jx_ga_some h
    refine jm_lald hx hb hK hP jm_a47 ej4 bj4 dX6_parts_71 ?_
    refine lv_land hx hb dX6_parts_72 ?_
    refine lv_lconst hx hb dX6_parts_73 jx_kl0 ?_
    refine W.lcmp hx hb dX6_parts_74 ?_
    refine lv_if_eq (tgt := 79) hx hb dX6_parts_75 rfl (fun c5 => ?_) (fun c5 => ?_)
    · rw [if_pos c5] at h
      obtain ⟨y6, ey6, h⟩ := jx_nx_some h
      refine lv_iinc (v := y6) (lv' := [(6, .int y6), (0, .ref (ad 0)), (1, .int x1), (2, .int x2), (4, .int x4), (5, .int x5)]) hx hb dX6_parts_79 hl (k := 5) rfl (jx_inc jx_ki1 ey6) (Nat.le_of_ble_eq_true rfl) rfl (fun ls hl => ?_)
      refine lv_goto (tgt := 51) hx hb dX6_parts_82 rfl ?_
      exact hr51 _ h _ _ _ hP hD hS (lv_sub hl [1, 2, 3, 4, 5, 0] rfl)
    · rw [if_neg c5] at h
      exact jm_vret hx hb hr hlk hK hZ hP hD hS h dX6_parts_78
theorem jm_parts_h51_ok {out : jm_S} (hX : jm_Ok p R s m args meth c A D ck ad sa cX6_parts 8 none lv) (F : Nat) (rc : Int32 × Int32 × Int32 × jm_S → Option (jm_S)) {lv0 : Nat} (hlr : lv0 + 1 ≤ lv) (hl0 : 1 ≤ lv) (hrc : ∀ a q, rc a = some q → jm_Mv l D ck ad sa A yX6_parts cX6_parts 8 none lv0 [.int a.1, .int a.2.1, .int a.2.2.1] a.2.2.2 q) {r19 : Int32 × Int32 × Int32 × Int32 × jm_S → Option (jm_S)} (hr19 : ∀ a, r19 a = some out → jm_J p l e R s m args below meth c A D ck ad 8 (jm_Qv below args s A D ck ad sa out) 19 [(0, .ref (ad 0)), (1, .int a.1), (2, .int a.2.1), (4, .int a.2.2.1), (5, .int a.2.2.2.1)] [] a.2.2.2.2) (n : Nat) (a : Int32 × Int32 × Int32 × Int32 × Int32 × jm_S) (h : jm_parts_h51 F rc r19 n a = some out) : jm_J p l e R s m args below meth c A D ck ad 8 (jm_Qv below args s A D ck ad sa out) 51 [(0, .ref (ad 0)), (1, .int a.1), (2, .int a.2.1), (4, .int a.2.2.1), (5, .int a.2.2.2.1), (6, .int a.2.2.2.2.1)] [] a.2.2.2.2.2 :=
  jx_loop_ind (J := fun a => jm_J p l e R s m args below meth c A D ck ad 8 (jm_Qv below args s A D ck ad sa out) 51 [(0, .ref (ad 0)), (1, .int a.1), (2, .int a.2.1), (4, .int a.2.2.1), (5, .int a.2.2.2.1), (6, .int a.2.2.2.2.1)] [] a.2.2.2.2.2) (fun r hr a h => jm_parts_L51_ok hX F rc hlr hl0 hrc hr19 hr a.1 a.2.1 a.2.2.1 a.2.2.2.1 a.2.2.2.2.1 a.2.2.2.2.2 h) n a h
theorem jm_parts_L94_ok {out : jm_S} (hX : jm_Ok p R s m args meth c A D ck ad sa cX6_parts 8 none lv) (F : Nat) (rc : Int32 × Int32 × Int32 × jm_S → Option (jm_S)) {lv0 : Nat} (hlr : lv0 + 1 ≤ lv) (hl0 : 1 ≤ lv) (hrc : ∀ a q, rc a = some q → jm_Mv l D ck ad sa A yX6_parts cX6_parts 8 none lv0 [.int a.1, .int a.2.1, .int a.2.2.1] a.2.2.2 q) {r94 : Int32 × Int32 × Int32 × jm_S → Option (jm_S)} (hr94 : ∀ a, r94 a = some out → jm_J p l e R s m args below meth c A D ck ad 8 (jm_Qv below args s A D ck ad sa out) 94 [(0, .ref (ad 0)), (1, .int a.1), (4, .int a.2.1), (5, .int a.2.2.1)] [] a.2.2.2) (x1 : Int32) (x4 : Int32) (x5 : Int32) (S : jm_S) (h : jm_parts_L94 F rc r94 x1 x4 x5 S = some out) : jm_J p l e R s m args below meth c A D ck ad 8 (jm_Qv below args s A D ck ad sa out) 94 [(0, .ref (ad 0)), (1, .int x1), (4, .int x4), (5, .int x5)] [] S := by
  intro H locs ls hP hD hS hl
  have hX0 := hX
  obtain ⟨hx, hb, hml, hown, hts, hlk, hr, hlv, hK, hZ⟩ := hX0
  unfold jm_parts_L94 at h
  refine lv_iload hx hb dX6_parts_94 (lv_at hl 3 rfl) ?_
  refine lv_iload_n hx hb dX6_parts_96 rfl (lv_at hl 1 rfl) ?_
  refine lv_icmp_ge (tgt := 121) hx hb dX6_parts_97 rfl (fun c1 => ?_) (fun c1 => ?_)
  · rw [if_pos c1] at h
    refine lv_aload_n hx hb dX6_parts_121 rfl (lv_at hl 0 rfl) ?_
    refine lv_aload_n hx hb dX6_parts_122 rfl (lv_at hl 0 rfl) ?_
    refine jm_get hx hb hts hown hK hP jm_f49 (by decide) jm_g49 dX6_parts_123 ?_
    refine lv_if_ge (tgt := 134) hx hb dX6_parts_126 rfl (fun c2 => ?_) (fun c2 => ?_)
    · rw [if_pos c2] at h
      refine lv_aload_n hx hb dX6_parts_134 rfl (lv_at hl 0 rfl) ?_
      refine jm_get hx hb hts hown hK hP jm_f49 (by decide) jm_g49 dX6_parts_135 ?_
      refine lv_iload hx hb dX6_parts_138 (lv_at hl 2 rfl) ?_
      refine va_mmin hx hb (hml.trans hl.1.symm) hown (hts _ q2081) (hts _ jx_mmin_s) (hts _ jx_mmin_i) (hts _ jx_mmin_c) (by rw [hlv]; exact Nat.le_trans (Nat.le_of_ble_eq_true rfl) hl0) (by rw [hlv]; exact Nat.le_trans (Nat.le_of_ble_eq_true rfl) (Nat.mul_le_mul_left 40 hl0)) (Nat.zero_le _) (Nat.zero_le _) dX6_parts_140 ?_
      obtain ⟨S4, eS4, h⟩ := jx_nx_some h
      refine jm_put hx hb hts hown hK hP hD hS eS4 jm_f49 (by decide) jm_n49 jm_d49 jm_p49 dX6_parts_143 (fun H locs hP hD hS => ?_)
      exact jm_vret hx hb hr hlk hK hZ hP hD hS h dX6_parts_146
    · rw [if_neg c2] at h
      refine lv_iload hx hb dX6_parts_129 (lv_at hl 2 rfl) ?_
      refine lv_goto (tgt := 143) hx hb dX6_parts_131 rfl ?_
      obtain ⟨S5, eS5, h⟩ := jx_nx_some h
      refine jm_put hx hb hts hown hK hP hD hS eS5 jm_f49 (by decide) jm_n49 jm_d49 jm_p49 dX6_parts_143 (fun H locs hP hD hS => ?_)
      exact jm_vret hx hb hr hlk hK hZ hP hD hS h dX6_parts_146
  · rw [if_neg c1] at h
    refine lv_iload hx hb dX6_parts_100 (lv_at hl 2 rfl) ?_
    refine lv_aload_n hx hb dX6_parts_102 rfl (lv_at hl 0 rfl) ?_
    refine jm_get hx hb hts hown hK hP jm_f44 (by decide) jm_g44 dX6_parts_103 ?_
    refine lv_iload hx hb dX6_parts_106 (lv_at hl 3 rfl) ?_
    obtain ⟨j6, ej6, bj6, h⟩ := jx_ga_some h
    refine jm_lald hx hb hK hP jm_a44 ej6 bj6 dX6_parts_108 ?_
    obtain ⟨q7, eq7, h⟩ := jx_bi_some h
    refine jx_callSi hx hb hml hown hts (jx_lbits_met eq7) jx_lbits_g_X6 jx_lbits_d (As := [.long (S.2.2 44 j6)]) (by rw [hlv]; exact ⟨Nat.le_trans (Nat.le_of_ble_eq_true rfl) hl0, Nat.le_trans (Nat.le_of_ble_eq_true rfl) (Nat.mul_le_mul_left 40 hl0)⟩) hl.1 rfl rfl (lv_room (Nat.le_of_ble_eq_true rfl)) dX6_parts_109 (by rw [hlv]; exact ⟨Nat.zero_le _, Nat.zero_le _⟩) ?_
    refine lv_isub hx hb dX6_parts_112 ?_
    obtain ⟨y8, ey8, h⟩ := jx_nx_some h
    refine jx_topi ey8 ?_
    refine lv_istore (lv' := [(4, .int y8), (0, .ref (ad 0)), (1, .int x1), (5, .int x5)]) hx hb dX6_parts_113 hl (Nat.le_of_ble_eq_true rfl) rfl (fun ls hl => ?_)
    obtain ⟨y9, ey9, h⟩ := jx_nx_some h
    refine lv_iinc (v := y9) (lv' := [(5, .int y9), (4, .int y8), (0, .ref (ad 0)), (1, .int x1)]) hx hb dX6_parts_115 hl (k := 3) rfl (jx_inc jx_ki1 ey9) (Nat.le_of_ble_eq_true rfl) rfl (fun ls hl => ?_)
    refine lv_goto (tgt := 94) hx hb dX6_parts_118 rfl ?_
    exact hr94 _ h _ _ _ hP hD hS (lv_sub hl [2, 3, 1, 0] rfl)
theorem jm_parts_h94_ok {out : jm_S} (hX : jm_Ok p R s m args meth c A D ck ad sa cX6_parts 8 none lv) (F : Nat) (rc : Int32 × Int32 × Int32 × jm_S → Option (jm_S)) {lv0 : Nat} (hlr : lv0 + 1 ≤ lv) (hl0 : 1 ≤ lv) (hrc : ∀ a q, rc a = some q → jm_Mv l D ck ad sa A yX6_parts cX6_parts 8 none lv0 [.int a.1, .int a.2.1, .int a.2.2.1] a.2.2.2 q) (n : Nat) (a : Int32 × Int32 × Int32 × jm_S) (h : jm_parts_h94 F rc n a = some out) : jm_J p l e R s m args below meth c A D ck ad 8 (jm_Qv below args s A D ck ad sa out) 94 [(0, .ref (ad 0)), (1, .int a.1), (4, .int a.2.1), (5, .int a.2.2.1)] [] a.2.2.2 :=
  jx_loop_ind (J := fun a => jm_J p l e R s m args below meth c A D ck ad 8 (jm_Qv below args s A D ck ad sa out) 94 [(0, .ref (ad 0)), (1, .int a.1), (4, .int a.2.1), (5, .int a.2.2.1)] [] a.2.2.2) (fun r hr a h => jm_parts_L94_ok hX F rc hlr hl0 hrc hr a.1 a.2.1 a.2.2.1 a.2.2.2 h) n a h
theorem jm_parts_L19_ok {out : jm_S} (hX : jm_Ok p R s m args meth c A D ck ad sa cX6_parts 8 none lv) (F : Nat) (rc : Int32 × Int32 × Int32 × jm_S → Option (jm_S)) {lv0 : Nat} (hlr : lv0 + 1 ≤ lv) (hl0 : 1 ≤ lv) (hrc : ∀ a q, rc a = some q → jm_Mv l D ck ad sa A yX6_parts cX6_parts 8 none lv0 [.int a.1, .int a.2.1, .int a.2.2.1] a.2.2.2 q) {r19 : Int32 × Int32 × Int32 × Int32 × jm_S → Option (jm_S)} (hr19 : ∀ a, r19 a = some out → jm_J p l e R s m args below meth c A D ck ad 8 (jm_Qv below args s A D ck ad sa out) 19 [(0, .ref (ad 0)), (1, .int a.1), (2, .int a.2.1), (4, .int a.2.2.1), (5, .int a.2.2.2.1)] [] a.2.2.2.2) (x1 : Int32) (x2 : Int32) (x4 : Int32) (x5 : Int32) (S : jm_S) (h : jm_parts_L19 F rc r19 x1 x2 x4 x5 S = some out) : jm_J p l e R s m args below meth c A D ck ad 8 (jm_Qv below args s A D ck ad sa out) 19 [(0, .ref (ad 0)), (1, .int x1), (2, .int x2), (4, .int x4), (5, .int x5)] [] S := by
  intro H locs ls hP hD hS hl
  have hX0 := hX
  obtain ⟨hx, hb, hml, hown, hts, hlk, hr, hlv, hK, hZ⟩ := hX0
  unfold jm_parts_L19 at h
  refine lv_iload hx hb dX6_parts_19 (lv_at hl 4 rfl) ?_
  refine lv_iload_n hx hb dX6_parts_21 rfl (lv_at hl 2 rfl) ?_
  refine lv_icmp_ge (tgt := 91) hx hb dX6_parts_22 rfl (fun c1 => ?_) (fun c1 => ?_)
  · rw [if_pos c1] at h
    refine lv_iconst hx hb dX6_parts_91 jx_ki0 ?_
    obtain ⟨y2, ey2, h⟩ := jx_nx_some h
    refine jx_topi ey2 ?_
    refine lv_istore (lv' := [(5, .int y2), (0, .ref (ad 0)), (1, .int x1), (2, .int x2), (4, .int x4)]) hx hb dX6_parts_92 hl (Nat.le_of_ble_eq_true rfl) rfl (fun ls hl => ?_)
    exact jm_parts_h94_ok hX F rc hlr hl0 hrc F _ h _ _ _ hP hD hS (lv_sub hl [1, 2, 4, 0] rfl)
  · rw [if_neg c1] at h
    refine lv_iload hx hb dX6_parts_25 (lv_at hl 3 rfl) ?_
    refine lv_aload_n hx hb dX6_parts_27 rfl (lv_at hl 0 rfl) ?_
    refine jm_get hx hb hts hown hK hP jm_f48 (by decide) jm_g48 dX6_parts_28 ?_
    refine lv_iload hx hb dX6_parts_31 (lv_at hl 4 rfl) ?_
    obtain ⟨j3, ej3, bj3, h⟩ := jx_ga_some h
    refine jm_iald hx hb hK hP jm_a48 ej3 bj3 dX6_parts_33 ?_
    refine lv_aload_n hx hb dX6_parts_34 rfl (lv_at hl 0 rfl) ?_
    refine jm_get hx hb hts hown hK hP jm_f47 (by decide) jm_g47 dX6_parts_35 ?_
    refine lv_iload hx hb dX6_parts_38 (lv_at hl 4 rfl) ?_
    obtain ⟨j4, ej4, bj4, h⟩ := jx_ga_some h
    refine jm_lald hx hb hK hP jm_a47 ej4 bj4 dX6_parts_40 ?_
    obtain ⟨q5, eq5, h⟩ := jx_bi_some h
    refine jx_callSi hx hb hml hown hts (jx_lbits_met eq5) jx_lbits_g_X6 jx_lbits_d (As := [.long (S.2.2 47 j4)]) (by rw [hlv]; exact ⟨Nat.le_trans (Nat.le_of_ble_eq_true rfl) hl0, Nat.le_trans (Nat.le_of_ble_eq_true rfl) (Nat.mul_le_mul_left 40 hl0)⟩) hl.1 rfl rfl (lv_room (Nat.le_of_ble_eq_true rfl)) dX6_parts_41 (by rw [hlv]; exact ⟨Nat.zero_le _, Nat.zero_le _⟩) ?_
    refine lv_imul hx hb dX6_parts_44 ?_
    refine lv_iadd hx hb dX6_parts_45 ?_
    obtain ⟨y6, ey6, h⟩ := jx_nx_some h
    refine jx_topi ey6 ?_
    refine lv_istore (lv' := [(4, .int y6), (0, .ref (ad 0)), (1, .int x1), (2, .int x2), (5, .int x5)]) hx hb dX6_parts_46 hl (Nat.le_of_ble_eq_true rfl) rfl (fun ls hl => ?_)
    refine lv_iconst hx hb dX6_parts_48 jx_ki0 ?_
    obtain ⟨y7, ey7, h⟩ := jx_nx_some h
    refine jx_topi ey7 ?_
    refine lv_istore (lv' := [(6, .int y7), (4, .int y6), (0, .ref (ad 0)), (1, .int x1), (2, .int x2), (5, .int x5)]) hx hb dX6_parts_49 hl (Nat.le_of_ble_eq_true rfl) rfl (fun ls hl => ?_)
    exact jm_parts_h51_ok hX F rc hlr hl0 hrc hr19 F _ h _ _ _ hP hD hS (lv_sub hl [2, 3, 4, 1, 5, 0] rfl)
theorem jm_parts_h19_ok {out : jm_S} (hX : jm_Ok p R s m args meth c A D ck ad sa cX6_parts 8 none lv) (F : Nat) (rc : Int32 × Int32 × Int32 × jm_S → Option (jm_S)) {lv0 : Nat} (hlr : lv0 + 1 ≤ lv) (hl0 : 1 ≤ lv) (hrc : ∀ a q, rc a = some q → jm_Mv l D ck ad sa A yX6_parts cX6_parts 8 none lv0 [.int a.1, .int a.2.1, .int a.2.2.1] a.2.2.2 q) (n : Nat) (a : Int32 × Int32 × Int32 × Int32 × jm_S) (h : jm_parts_h19 F rc n a = some out) : jm_J p l e R s m args below meth c A D ck ad 8 (jm_Qv below args s A D ck ad sa out) 19 [(0, .ref (ad 0)), (1, .int a.1), (2, .int a.2.1), (4, .int a.2.2.1), (5, .int a.2.2.2.1)] [] a.2.2.2.2 :=
  jx_loop_ind (J := fun a => jm_J p l e R s m args below meth c A D ck ad 8 (jm_Qv below args s A D ck ad sa out) 19 [(0, .ref (ad 0)), (1, .int a.1), (2, .int a.2.1), (4, .int a.2.2.1), (5, .int a.2.2.2.1)] [] a.2.2.2.2) (fun r hr a h => jm_parts_L19_ok hX F rc hlr hl0 hrc hr a.1 a.2.1 a.2.2.1 a.2.2.2.1 a.2.2.2.2 h) n a h
theorem jm_parts_b244_ok {out : jm_S} (hX : jm_Ok p R s m args meth c A D ck ad sa cX6_parts 8 none lv) (F : Nat) (rc : Int32 × Int32 × Int32 × jm_S → Option (jm_S)) {lv0 : Nat} (hlr : lv0 + 1 ≤ lv) (hl0 : 1 ≤ lv) (hrc : ∀ a q, rc a = some q → jm_Mv l D ck ad sa A yX6_parts cX6_parts 8 none lv0 [.int a.1, .int a.2.1, .int a.2.2.1] a.2.2.2 q) {r150 : Int32 × Int32 × Int32 × Int32 × jm_S → Option (jm_S)} (hr150 : ∀ a, r150 a = some out → jm_J p l e R s m args below meth c A D ck ad 8 (jm_Qv below args s A D ck ad sa out) 150 [(0, .ref (ad 0)), (1, .int a.1), (2, .int a.2.1), (3, .int a.2.2.1), (4, .int a.2.2.2.1)] [] a.2.2.2.2) (x1 : Int32) (x2 : Int32) (x3 : Int32) (x4 : Int32) (x5 : Int64) (x7 : Int32) (k0 : Int32) (k1 : Int32) (S : jm_S) (h : jm_parts_b244 F rc r150 x1 x2 x3 x4 x5 x7 k0 k1 S = some out) : jm_J p l e R s m args below meth c A D ck ad 8 (jm_Qv below args s A D ck ad sa out) 244 [(0, .ref (ad 0)), (1, .int x1), (2, .int x2), (3, .int x3), (4, .int x4), (5, .long x5), (7, .int x7)] [.int k0, .int k1, .ref (ad 0)] S := by
  intro H locs ls hP hD hS hl
  have hX0 := hX
  obtain ⟨hx, hb, hml, hown, hts, hlk, hr, hlv, hK, hZ⟩ := hX0
  unfold jm_parts_b244 at h
  refine lv_iload_n hx hb dX6_parts_244 rfl (lv_at hl 3 rfl) ?_
  obtain ⟨q1, eq1, h⟩ := jx_bi_some h
  refine jm_callV hx hb hml hown hts hlv hK hZ (hrc _ _ eq1) jm_parts_g jm_parts_d (As := [.int k1, .int k0, .int x3]) hlr (Nat.le_of_ble_eq_true rfl) hP hD hS hl.1 rfl rfl (lv_room (Nat.le_of_ble_eq_true rfl)) dX6_parts_245 (fun H locs hP hD hS => ?_)
  refine lv_aload_n hx hb dX6_parts_248 rfl (lv_at hl 0 rfl) ?_
  refine jm_get hx hb hts hown hK hP jm_f47 (by decide) jm_g47 dX6_parts_249 ?_
  refine lv_iload hx hb dX6_parts_252 (lv_at hl 4 rfl) ?_
  refine lv_lload hx hb dX6_parts_254 (lv_at hl 5 rfl) ?_
  obtain ⟨j2, ej2, bj2, h⟩ := jx_ga_some h
  obtain ⟨S3, eS3, h⟩ := jx_nx_some h
  refine jm_last hx hb hK hP hD hS jm_a47 (fun f => jm_u47 f) ej2 bj2 eS3 dX6_parts_256 (fun H locs hP hD hS => ?_)
  refine lv_aload_n hx hb dX6_parts_257 rfl (lv_at hl 0 rfl) ?_
  refine jm_get hx hb hts hown hK hP jm_f48 (by decide) jm_g48 dX6_parts_258 ?_
  refine lv_iload hx hb dX6_parts_261 (lv_at hl 4 rfl) ?_
  refine lv_iload hx hb dX6_parts_263 (lv_at hl 6 rfl) ?_
  obtain ⟨j4, ej4, bj4, h⟩ := jx_ga_some h
  obtain ⟨S5, eS5, h⟩ := jx_nx_some h
  refine jm_iast hx hb hK hP hD hS jm_a48 (fun f => jm_u48 f) ej4 bj4 eS5 dX6_parts_265 (fun H locs hP hD hS => ?_)
  obtain ⟨y6, ey6, h⟩ := jx_nx_some h
  refine lv_iinc (v := y6) (lv' := [(4, .int y6), (0, .ref (ad 0)), (1, .int x1), (2, .int x2), (3, .int x3), (5, .long x5), (7, .int x7)]) hx hb dX6_parts_266 hl (k := 4) rfl (jx_inc jx_ki1 ey6) (Nat.le_of_ble_eq_true rfl) rfl (fun ls hl => ?_)
  refine lv_goto (tgt := 150) hx hb dX6_parts_269 rfl ?_
  exact hr150 _ h _ _ _ hP hD hS (lv_sub hl [1, 2, 3, 4, 0] rfl)
theorem jm_parts_b198_ok {out : jm_S} (hX : jm_Ok p R s m args meth c A D ck ad sa cX6_parts 8 none lv) (F : Nat) (rc : Int32 × Int32 × Int32 × jm_S → Option (jm_S)) {lv0 : Nat} (hlr : lv0 + 1 ≤ lv) (hl0 : 1 ≤ lv) (hrc : ∀ a q, rc a = some q → jm_Mv l D ck ad sa A yX6_parts cX6_parts 8 none lv0 [.int a.1, .int a.2.1, .int a.2.2.1] a.2.2.2 q) {r150 : Int32 × Int32 × Int32 × Int32 × jm_S → Option (jm_S)} (hr150 : ∀ a, r150 a = some out → jm_J p l e R s m args below meth c A D ck ad 8 (jm_Qv below args s A D ck ad sa out) 150 [(0, .ref (ad 0)), (1, .int a.1), (2, .int a.2.1), (3, .int a.2.2.1), (4, .int a.2.2.2.1)] [] a.2.2.2.2) (x1 : Int32) (x2 : Int32) (x3 : Int32) (x4 : Int32) (x5 : Int64) (k0 : Int32) (S : jm_S) (h : jm_parts_b198 F rc r150 x1 x2 x3 x4 x5 k0 S = some out) : jm_J p l e R s m args below meth c A D ck ad 8 (jm_Qv below args s A D ck ad sa out) 198 [(0, .ref (ad 0)), (1, .int x1), (2, .int x2), (3, .int x3), (4, .int x4), (5, .long x5)] [.int k0] S := by
  intro H locs ls hP hD hS hl
  have hX0 := hX
  obtain ⟨hx, hb, hml, hown, hts, hlk, hr, hlv, hK, hZ⟩ := hX0
  unfold jm_parts_b198 at h
  refine lv_istore (lv' := [(7, .int k0), (0, .ref (ad 0)), (1, .int x1), (2, .int x2), (3, .int x3), (4, .int x4), (5, .long x5)]) hx hb dX6_parts_198 hl (Nat.le_of_ble_eq_true rfl) rfl (fun ls hl => ?_)
  refine lv_aload_n hx hb dX6_parts_200 rfl (lv_at hl 1 rfl) ?_
  refine jm_get hx hb hts hown hK hP jm_f47 (by decide) jm_g47 dX6_parts_201 ?_
  refine lv_iload hx hb dX6_parts_204 (lv_at hl 5 rfl) ?_
  refine lv_lload hx hb dX6_parts_206 (lv_at hl 6 rfl) ?_
  refine lv_aload_n hx hb dX6_parts_208 rfl (lv_at hl 1 rfl) ?_
  refine jm_get hx hb hts hown hK hP jm_f44 (by decide) jm_g44 dX6_parts_209 ?_
  refine lv_iload_n hx hb dX6_parts_212 rfl (lv_at hl 2 rfl) ?_
  obtain ⟨j1, ej1, bj1, h⟩ := jx_ga_some h
  refine jm_lald hx hb hK hP jm_a44 ej1 bj1 dX6_parts_213 ?_
  refine lv_lor hx hb dX6_parts_214 ?_
  obtain ⟨j2, ej2, bj2, h⟩ := jx_ga_some h
  obtain ⟨S3, eS3, h⟩ := jx_nx_some h
  refine jm_last hx hb hK hP hD hS jm_a47 (fun f => jm_u47 f) ej2 bj2 eS3 dX6_parts_215 (fun H locs hP hD hS => ?_)
  refine lv_aload_n hx hb dX6_parts_216 rfl (lv_at hl 1 rfl) ?_
  refine jm_get hx hb hts hown hK hP jm_f48 (by decide) jm_g48 dX6_parts_217 ?_
  refine lv_iload hx hb dX6_parts_220 (lv_at hl 5 rfl) ?_
  refine lv_iload hx hb dX6_parts_222 (lv_at hl 0 rfl) ?_
  refine lv_iconst hx hb dX6_parts_224 jx_ki1 ?_
  refine lv_iadd hx hb dX6_parts_225 ?_
  obtain ⟨j4, ej4, bj4, h⟩ := jx_ga_some h
  obtain ⟨S5, eS5, h⟩ := jx_nx_some h
  refine jm_iast hx hb hK hP hD hS jm_a48 (fun f => jm_u48 f) ej4 bj4 eS5 dX6_parts_226 (fun H locs hP hD hS => ?_)
  refine lv_aload_n hx hb dX6_parts_227 rfl (lv_at hl 1 rfl) ?_
  refine lv_iload_n hx hb dX6_parts_228 rfl (lv_at hl 2 rfl) ?_
  refine lv_iconst hx hb dX6_parts_229 jx_ki1 ?_
  refine lv_iadd hx hb dX6_parts_230 ?_
  refine lv_iload hx hb dX6_parts_231 (lv_at hl 5 rfl) ?_
  refine lv_iload_n hx hb dX6_parts_233 rfl (lv_at hl 3 rfl) ?_
  refine lv_icmp_ne (tgt := 243) hx hb dX6_parts_234 rfl (fun c6 => ?_) (fun c6 => ?_)
  · rw [if_neg c6] at h
    refine lv_iload_n hx hb dX6_parts_243 rfl (lv_at hl 3 rfl) ?_
    exact jm_parts_b244_ok hX F rc hlr hl0 hrc hr150 _ _ _ _ _ _ _ _ _ h _ _ _ hP hD hS (lv_sub hl [1, 2, 3, 4, 5, 6, 0] rfl)
  · rw [if_pos c6] at h
    refine lv_iload_n hx hb dX6_parts_237 rfl (lv_at hl 3 rfl) ?_
    refine lv_iconst hx hb dX6_parts_238 jx_ki1 ?_
    refine lv_iadd hx hb dX6_parts_239 ?_
    refine lv_goto (tgt := 244) hx hb dX6_parts_240 rfl ?_
    exact jm_parts_b244_ok hX F rc hlr hl0 hrc hr150 _ _ _ _ _ _ _ _ _ h _ _ _ hP hD hS (lv_sub hl [1, 2, 3, 4, 5, 6, 0] rfl)
theorem jm_parts_b179_ok {out : jm_S} (hX : jm_Ok p R s m args meth c A D ck ad sa cX6_parts 8 none lv) (F : Nat) (rc : Int32 × Int32 × Int32 × jm_S → Option (jm_S)) {lv0 : Nat} (hlr : lv0 + 1 ≤ lv) (hl0 : 1 ≤ lv) (hrc : ∀ a q, rc a = some q → jm_Mv l D ck ad sa A yX6_parts cX6_parts 8 none lv0 [.int a.1, .int a.2.1, .int a.2.2.1] a.2.2.2 q) {r150 : Int32 × Int32 × Int32 × Int32 × jm_S → Option (jm_S)} (hr150 : ∀ a, r150 a = some out → jm_J p l e R s m args below meth c A D ck ad 8 (jm_Qv below args s A D ck ad sa out) 150 [(0, .ref (ad 0)), (1, .int a.1), (2, .int a.2.1), (3, .int a.2.2.1), (4, .int a.2.2.2.1)] [] a.2.2.2.2) (x1 : Int32) (x2 : Int32) (x3 : Int32) (x4 : Int32) (k0 : Int64) (S : jm_S) (h : jm_parts_b179 F rc r150 x1 x2 x3 x4 k0 S = some out) : jm_J p l e R s m args below meth c A D ck ad 8 (jm_Qv below args s A D ck ad sa out) 179 [(0, .ref (ad 0)), (1, .int x1), (2, .int x2), (3, .int x3), (4, .int x4)] [.long k0] S := by
  intro H locs ls hP hD hS hl
  have hX0 := hX
  obtain ⟨hx, hb, hml, hown, hts, hlk, hr, hlv, hK, hZ⟩ := hX0
  unfold jm_parts_b179 at h
  refine lv_lstore (lv' := [(5, .long k0), (0, .ref (ad 0)), (1, .int x1), (2, .int x2), (3, .int x3), (4, .int x4)]) hx hb dX6_parts_179 hl (Nat.le_of_ble_eq_true rfl) rfl (fun ls hl => ?_)
  refine lv_iload hx hb dX6_parts_181 (lv_at hl 5 rfl) ?_
  refine lv_iload_n hx hb dX6_parts_183 rfl (lv_at hl 3 rfl) ?_
  refine lv_icmp_ne (tgt := 191) hx hb dX6_parts_184 rfl (fun c1 => ?_) (fun c1 => ?_)
  · rw [if_neg c1] at h
    refine lv_aload_n hx hb dX6_parts_191 rfl (lv_at hl 1 rfl) ?_
    refine jm_get hx hb hts hown hK hP jm_f48 (by decide) jm_g48 dX6_parts_192 ?_
    refine lv_iload hx hb dX6_parts_195 (lv_at hl 5 rfl) ?_
    obtain ⟨j2, ej2, bj2, h⟩ := jx_ga_some h
    refine jm_iald hx hb hK hP jm_a48 ej2 bj2 dX6_parts_197 ?_
    exact jm_parts_b198_ok hX F rc hlr hl0 hrc hr150 _ _ _ _ _ _ _ h _ _ _ hP hD hS (lv_sub hl [1, 2, 3, 4, 5, 0] rfl)
  · rw [if_pos c1] at h
    refine lv_iconst hx hb dX6_parts_187 jx_ki0 ?_
    refine lv_goto (tgt := 198) hx hb dX6_parts_188 rfl ?_
    exact jm_parts_b198_ok hX F rc hlr hl0 hrc hr150 _ _ _ _ _ _ _ h _ _ _ hP hD hS (lv_sub hl [1, 2, 3, 4, 5, 0] rfl)
theorem jm_parts_L150_ok {out : jm_S} (hX : jm_Ok p R s m args meth c A D ck ad sa cX6_parts 8 none lv) (F : Nat) (rc : Int32 × Int32 × Int32 × jm_S → Option (jm_S)) {lv0 : Nat} (hlr : lv0 + 1 ≤ lv) (hl0 : 1 ≤ lv) (hrc : ∀ a q, rc a = some q → jm_Mv l D ck ad sa A yX6_parts cX6_parts 8 none lv0 [.int a.1, .int a.2.1, .int a.2.2.1] a.2.2.2 q) {r150 : Int32 × Int32 × Int32 × Int32 × jm_S → Option (jm_S)} (hr150 : ∀ a, r150 a = some out → jm_J p l e R s m args below meth c A D ck ad 8 (jm_Qv below args s A D ck ad sa out) 150 [(0, .ref (ad 0)), (1, .int a.1), (2, .int a.2.1), (3, .int a.2.2.1), (4, .int a.2.2.2.1)] [] a.2.2.2.2) (x1 : Int32) (x2 : Int32) (x3 : Int32) (x4 : Int32) (S : jm_S) (h : jm_parts_L150 F rc r150 x1 x2 x3 x4 S = some out) : jm_J p l e R s m args below meth c A D ck ad 8 (jm_Qv below args s A D ck ad sa out) 150 [(0, .ref (ad 0)), (1, .int x1), (2, .int x2), (3, .int x3), (4, .int x4)] [] S := by
  intro H locs ls hP hD hS hl
  have hX0 := hX
  obtain ⟨hx, hb, hml, hown, hts, hlk, hr, hlv, hK, hZ⟩ := hX0
  unfold jm_parts_L150 at h
  refine lv_iload hx hb dX6_parts_150 (lv_at hl 4 rfl) ?_
  refine lv_iload_n hx hb dX6_parts_152 rfl (lv_at hl 2 rfl) ?_
  refine lv_icmp_gt (tgt := 272) hx hb dX6_parts_153 rfl (fun c1 => ?_) (fun c1 => ?_)
  · rw [if_pos c1] at h
    exact jm_vret hx hb hr hlk hK hZ hP hD hS h dX6_parts_272
  · rw [if_neg c1] at h
    refine lv_iload hx hb dX6_parts_156 (lv_at hl 4 rfl) ?_
    refine lv_iload_n hx hb dX6_parts_158 rfl (lv_at hl 3 rfl) ?_
    refine lv_icmp_ge (tgt := 272) hx hb dX6_parts_159 rfl (fun c2 => ?_) (fun c2 => ?_)
    · rw [if_pos c2] at h
      exact jm_vret hx hb hr hlk hK hZ hP hD hS h dX6_parts_272
    · rw [if_neg c2] at h
      refine lv_iload hx hb dX6_parts_162 (lv_at hl 4 rfl) ?_
      refine lv_iload_n hx hb dX6_parts_164 rfl (lv_at hl 2 rfl) ?_
      refine lv_icmp_ne (tgt := 172) hx hb dX6_parts_165 rfl (fun c3 => ?_) (fun c3 => ?_)
      · rw [if_neg c3] at h
        refine lv_aload_n hx hb dX6_parts_172 rfl (lv_at hl 0 rfl) ?_
        refine jm_get hx hb hts hown hK hP jm_f47 (by decide) jm_g47 dX6_parts_173 ?_
        refine lv_iload hx hb dX6_parts_176 (lv_at hl 4 rfl) ?_
        obtain ⟨j4, ej4, bj4, h⟩ := jx_ga_some h
        refine jm_lald hx hb hK hP jm_a47 ej4 bj4 dX6_parts_178 ?_
        exact jm_parts_b179_ok hX F rc hlr hl0 hrc hr150 _ _ _ _ _ _ h _ _ _ hP hD hS hl
      · rw [if_pos c3] at h
        refine lv_lconst hx hb dX6_parts_168 jx_kl0 ?_
        refine lv_goto (tgt := 179) hx hb dX6_parts_169 rfl ?_
        exact jm_parts_b179_ok hX F rc hlr hl0 hrc hr150 _ _ _ _ _ _ h _ _ _ hP hD hS hl
theorem jm_parts_h150_ok {out : jm_S} (hX : jm_Ok p R s m args meth c A D ck ad sa cX6_parts 8 none lv) (F : Nat) (rc : Int32 × Int32 × Int32 × jm_S → Option (jm_S)) {lv0 : Nat} (hlr : lv0 + 1 ≤ lv) (hl0 : 1 ≤ lv) (hrc : ∀ a q, rc a = some q → jm_Mv l D ck ad sa A yX6_parts cX6_parts 8 none lv0 [.int a.1, .int a.2.1, .int a.2.2.1] a.2.2.2 q) (n : Nat) (a : Int32 × Int32 × Int32 × Int32 × jm_S) (h : jm_parts_h150 F rc n a = some out) : jm_J p l e R s m args below meth c A D ck ad 8 (jm_Qv below args s A D ck ad sa out) 150 [(0, .ref (ad 0)), (1, .int a.1), (2, .int a.2.1), (3, .int a.2.2.1), (4, .int a.2.2.2.1)] [] a.2.2.2.2 :=
  jx_loop_ind (J := fun a => jm_J p l e R s m args below meth c A D ck ad 8 (jm_Qv below args s A D ck ad sa out) 150 [(0, .ref (ad 0)), (1, .int a.1), (2, .int a.2.1), (3, .int a.2.2.1), (4, .int a.2.2.2.1)] [] a.2.2.2.2) (fun r hr a h => jm_parts_L150_ok hX F rc hlr hl0 hrc hr a.1 a.2.1 a.2.2.1 a.2.2.2.1 a.2.2.2.2 h) n a h
theorem jm_parts_B_ok {out : jm_S} (hX : jm_Ok p R s m args meth c A D ck ad sa cX6_parts 8 none lv) (F : Nat) (rc : Int32 × Int32 × Int32 × jm_S → Option (jm_S)) {lv0 : Nat} (hlr : lv0 + 1 ≤ lv) (hl0 : 1 ≤ lv) (hrc : ∀ a q, rc a = some q → jm_Mv l D ck ad sa A yX6_parts cX6_parts 8 none lv0 [.int a.1, .int a.2.1, .int a.2.2.1] a.2.2.2 q) (x1 : Int32) (x2 : Int32) (x3 : Int32) (S : jm_S) (h : jm_parts_B F rc x1 x2 x3 S = some out) : jm_J p l e R s m args below meth c A D ck ad 8 (jm_Qv below args s A D ck ad sa out) 0 [(0, .ref (ad 0)), (1, .int x1), (2, .int x2), (3, .int x3)] [] S := by
  intro H locs ls hP hD hS hl
  have hX0 := hX
  obtain ⟨hx, hb, hml, hown, hts, hlk, hr, hlv, hK, hZ⟩ := hX0
  unfold jm_parts_B at h
  refine lv_iload_n hx hb dX6_parts_0 rfl (lv_at hl 1 rfl) ?_
  refine lv_bipush hx hb dX6_parts_1 jx_kb6 ?_
  refine lv_aload_n hx hb dX6_parts_3 rfl (lv_at hl 0 rfl) ?_
  refine jm_get hx hb hts hown hK hP jm_f45 (by decide) jm_g45 dX6_parts_4 ?_
  refine va_mmin hx hb (hml.trans hl.1.symm) hown (hts _ q2081) (hts _ jx_mmin_s) (hts _ jx_mmin_i) (hts _ jx_mmin_c) (by rw [hlv]; exact Nat.le_trans (Nat.le_of_ble_eq_true rfl) hl0) (by rw [hlv]; exact Nat.le_trans (Nat.le_of_ble_eq_true rfl) (Nat.mul_le_mul_left 40 hl0)) (Nat.zero_le _) (Nat.zero_le _) dX6_parts_7 ?_
  refine lv_icmp_ne (tgt := 147) hx hb dX6_parts_10 rfl (fun c2 => ?_) (fun c2 => ?_)
  · rw [if_neg c2] at h
    refine lv_iconst hx hb dX6_parts_147 jx_ki0 ?_
    obtain ⟨y3, ey3, h⟩ := jx_nx_some h
    refine jx_topi ey3 ?_
    refine lv_istore (lv' := [(4, .int y3), (0, .ref (ad 0)), (1, .int x1), (2, .int x2), (3, .int x3)]) hx hb dX6_parts_148 hl (Nat.le_of_ble_eq_true rfl) rfl (fun ls hl => ?_)
    exact jm_parts_h150_ok hX F rc hlr hl0 hrc F _ h _ _ _ hP hD hS (lv_sub hl [1, 2, 3, 4, 0] rfl)
  · rw [if_pos c2] at h
    refine lv_iconst hx hb dX6_parts_13 jx_ki0 ?_
    obtain ⟨y4, ey4, h⟩ := jx_nx_some h
    refine jx_topi ey4 ?_
    refine lv_istore (lv' := [(4, .int y4), (0, .ref (ad 0)), (1, .int x1), (2, .int x2), (3, .int x3)]) hx hb dX6_parts_14 hl (Nat.le_of_ble_eq_true rfl) rfl (fun ls hl => ?_)
    refine lv_iconst hx hb dX6_parts_16 jx_ki0 ?_
    obtain ⟨y5, ey5, h⟩ := jx_nx_some h
    refine jx_topi ey5 ?_
    refine lv_istore (lv' := [(5, .int y5), (4, .int y4), (0, .ref (ad 0)), (1, .int x1), (2, .int x2), (3, .int x3)]) hx hb dX6_parts_17 hl (Nat.le_of_ble_eq_true rfl) rfl (fun ls hl => ?_)
    exact jm_parts_h19_ok hX F rc hlr hl0 hrc F _ h _ _ _ hP hD hS (lv_sub hl [2, 3, 4, 1, 0] rfl)
theorem jm_parts_metr {l : Launch} {D : va_G} {ck : Nat → ClassId} {ad sa : Nat → Nat} {A : Nat → Prop} {F : Nat} : ∀ (d : Nat) (a : Int32 × Int32 × Int32 × jm_S) (out : jm_S), jx_loop (fun rc (a : Int32 × Int32 × Int32 × jm_S) => jm_parts_B F rc a.1 a.2.1 a.2.2.1 a.2.2.2) d a = some out → jm_Mv l D ck ad sa A yX6_parts cX6_parts 8 none (1 + d) [.int a.1, .int a.2.1, .int a.2.2.1] a.2.2.2 out := by
  intro d
  induction d with
  | zero => intro a out h; cases h
  | succ d ih =>
    intro a out h
    exact jm_Mv_of ⟨by decide, rfl, Nat.le_of_ble_eq_true rfl⟩ (fun hX => jm_parts_B_ok hX F _ (Nat.le_refl _) (Nat.le_add_right _ _) (fun a q hq => ih a q hq) a.1 a.2.1 a.2.2.1 a.2.2.2 h)
theorem jm_parts_met {l : Launch} {D : va_G} {ck : Nat → ClassId} {ad sa : Nat → Nat} {A : Nat → Prop} {F : Nat} {x1 : Int32} {x2 : Int32} {x3 : Int32} {S : jm_S} {out : jm_S} (h : jm_parts F 10 x1 x2 x3 S = some out) : jm_Mv l D ck ad sa A yX6_parts cX6_parts 8 none 11 [.int x1, .int x2, .int x3] S out := jm_parts_metr 10 (x1, x2, x3, S) out h
end
