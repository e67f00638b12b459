set_option maxRecDepth 100000
set_option maxHeartbeats 4000000
section
variable {p : Program} {l : Launch} {e : Env} {R : Room} {s : State} {m : MethodId} {args : Array Value} {below : List Frame} {meth : Method} {c : Code} {A : Nat → Prop} {D : va_G} {E : jf_E} {fo : Nat → Nat → Option Nat} {pl : va_W} {lv : Nat} {H : Heap} {locs : List Loc} {Q : State → Prop} {pc : Nat} {ls : Array Slot} {rest : List Value} {cc : ByteArray} {S : jf_S}
theorem jf_tried_g_X1 : GoodIn lw_all (wsV RX1 315 RX1 yX1_tried (ws_ yX1_tried cX1_tried 6 (some .boolean))) := lw_V q915 q917 qs12 q102 q918
theorem jf_tried_d : yX1_tried.cls = RX1 ∧ yX1_tried.cls ≠ "java/lang/invoke/MethodHandle" ∧ yX1_tried.cls ≠ "java/lang/invoke/VarHandle" ∧ (parseMethodDescriptor yX1_tried.desc).map (fun d => d.parameters.length) = some 2 := by decide +kernel
theorem jf_tried_b133_ok {out : Int32 × jf_S} (hX : jf_Ok RX1 p R s m args meth c A D E cX1_tried 6 (some .boolean) 7) (F : Nat) {r17 : Int32 × Int32 × Int32 × jf_S → Option (Int32 × jf_S)} (hr17 : ∀ a, r17 a = some out → jf_J p l e R s m args below meth c A D E fo pl 6 (jf_Qi below args s A D E fo pl out) 17 [(0, .ref (E.1 0)), (1, .int a.1), (2, .int a.2.1), (3, .int a.2.2.1)] [] a.2.2.2) (x1 : Int32) (x2 : Int32) (x3 : Int32) (k0 : Int32) (S : jf_S) (h : jf_tried_b133 F r17 x1 x2 x3 k0 S = some out) : jf_J p l e R s m args below meth c A D E fo pl 6 (jf_Qi below args s A D E fo pl out) 133 [(0, .ref (E.1 0)), (1, .int x1), (2, .int x2), (3, .int x3)] [.int k0] S := by
  intro H locs ls hP hS hl
  have hX0 := hX
  obtain ⟨hx, hb, hml, hown, hts, hlk, hr, hlv, hV, het⟩ := hX0
  unfold jf_tried_b133 at h
  refine lv_istore (lv' := [(5, .int k0), (0, .ref (E.1 0)), (1, .int x1), (2, .int x2), (3, .int x3)]) hx hb dX1_tried_133 hl (Nat.le_of_ble_eq_true rfl) rfl (fun ls hl => ?_)
  refine lv_aload_n hx hb dX1_tried_135 rfl (lv_at hl 1 rfl) ?_
  refine jf_get hx hb hts in_X1 hown hV hP (ci := 1) (k := 3) jf_o0 rfl (by decide) (hts _ q457) rfl rfl dX1_tried_136 ?_
  obtain ⟨q1, eq1, h⟩ := jx_bi_some h
  refine jf_callI hx hb hml hown hts hlv hV (jk_step_met eq1) jk_step_g_X1 jk_step_d (As := []) (Nat.le_of_ble_eq_true rfl) (Nat.le_of_ble_eq_true rfl) hP hS (ci := 4) jf_o5 rfl hl.1 rfl rfl (lv_room (Nat.le_of_ble_eq_true rfl)) dX1_tried_139 (fun H locs hP hS => ?_)
  refine lv_if_eq (tgt := 168) hx hb dX1_tried_142 rfl (fun c2 => ?_) (fun c2 => ?_)
  · rw [if_pos c2] at h
    refine lv_iconst hx hb dX1_tried_168 jx_ki0 ?_
    exact jf_zret hx hb hr hlk hV hP hS jx_nz0 h dX1_tried_169
  · rw [if_neg c2] at h
    refine lv_aload_n hx hb dX1_tried_145 rfl (lv_at hl 1 rfl) ?_
    refine jf_get hx hb hts in_X1 hown hV hP (ci := 1) (k := 3) jf_o0 rfl (by decide) (hts _ q457) rfl rfl dX1_tried_146 ?_
    refine jf_getN hx hb hts in_X5 hown hV hP (ci := 4) (k := 9) jf_o5 rfl (by decide) (jf_l_X1_204 hV.2.2.1) rfl rfl dX1_tried_149 ?_
    refine lv_aload_n hx hb dX1_tried_152 rfl (lv_at hl 1 rfl) ?_
    refine jf_get hx hb hts in_X1 hown hV hP (ci := 1) (k := 5) jf_o0 rfl (by decide) (hts _ q459) rfl rfl dX1_tried_153 ?_
    refine lv_iload_n hx hb dX1_tried_156 rfl (lv_at hl 4 rfl) ?_
    refine lv_iconst hx hb dX1_tried_157 jx_ki1 ?_
    refine lv_iadd hx hb dX1_tried_158 ?_
    obtain ⟨j3, ej3, bj3, h⟩ := jx_ga_some h
    refine jf_iald hx hb hV hP jf_a0_5 ej3 bj3 dX1_tried_159 ?_
    refine lv_icmp_ne (tgt := 168) hx hb dX1_tried_160 rfl (fun c4 => ?_) (fun c4 => ?_)
    · rw [if_neg c4] at h
      refine lv_iconst hx hb dX1_tried_168 jx_ki0 ?_
      exact jf_zret hx hb hr hlk hV hP hS jx_nz0 h dX1_tried_169
    · rw [if_pos c4] at h
      refine lv_iload hx hb dX1_tried_163 (lv_at hl 0 rfl) ?_
      refine lv_if_ne (tgt := 170) hx hb dX1_tried_165 rfl (fun c5 => ?_) (fun c5 => ?_)
      · rw [if_neg c5] at h
        obtain ⟨y6, ey6, h⟩ := jx_nx_some h
        refine lv_iinc (v := y6) (lv' := [(3, .int y6), (5, .int k0), (0, .ref (E.1 0)), (1, .int x1), (2, .int x2)]) hx hb dX1_tried_170 hl (k := 4) rfl (jx_inc jx_ki1 ey6) (Nat.le_of_ble_eq_true rfl) rfl (fun ls hl => ?_)
        refine lv_goto (tgt := 17) hx hb dX1_tried_173 rfl ?_
        exact hr17 _ h _ _ _ hP hS (lv_sub hl [2, 3, 4, 0] rfl)
      · rw [if_pos c5] at h
        refine lv_iconst hx hb dX1_tried_168 jx_ki0 ?_
        exact jf_zret hx hb hr hlk hV hP hS jx_nz0 h dX1_tried_169
theorem jf_tried_b128_ok {out : Int32 × jf_S} (hX : jf_Ok RX1 p R s m args meth c A D E cX1_tried 6 (some .boolean) 7) (F : Nat) {r17 : Int32 × Int32 × Int32 × jf_S → Option (Int32 × jf_S)} (hr17 : ∀ a, r17 a = some out → jf_J p l e R s m args below meth c A D E fo pl 6 (jf_Qi below args s A D E fo pl out) 17 [(0, .ref (E.1 0)), (1, .int a.1), (2, .int a.2.1), (3, .int a.2.2.1)] [] a.2.2.2) (x1 : Int32) (x2 : Int32) (x3 : Int32) (S : jf_S) (h : jf_tried_b128 F r17 x1 x2 x3 S = some out) : jf_J p l e R s m args below meth c A D E fo pl 6 (jf_Qi below args s A D E fo pl out) 128 [(0, .ref (E.1 0)), (1, .int x1), (2, .int x2), (3, .int x3)] [] S := by
  intro H locs ls hP hS hl
  have hX0 := hX
  obtain ⟨hx, hb, hml, hown, hts, hlk, hr, hlv, hV, het⟩ := hX0
  unfold jf_tried_b128 at h
  refine lv_iconst hx hb dX1_tried_128 jx_ki1 ?_
  refine lv_goto (tgt := 133) hx hb dX1_tried_129 rfl ?_
  exact jf_tried_b133_ok hX F hr17 _ _ _ _ _ h _ _ _ hP hS hl
theorem jf_tried_L17_ok {out : Int32 × jf_S} (hX : jf_Ok RX1 p R s m args meth c A D E cX1_tried 6 (some .boolean) 7) (F : Nat) {r17 : Int32 × Int32 × Int32 × jf_S → Option (Int32 × jf_S)} (hr17 : ∀ a, r17 a = some out → jf_J p l e R s m args below meth c A D E fo pl 6 (jf_Qi below args s A D E fo pl out) 17 [(0, .ref (E.1 0)), (1, .int a.1), (2, .int a.2.1), (3, .int a.2.2.1)] [] a.2.2.2) (x1 : Int32) (x2 : Int32) (x3 : Int32) (S : jf_S) (h : jf_tried_L17 F r17 x1 x2 x3 S = some out) : jf_J p l e R s m args below meth c A D E fo pl 6 (jf_Qi below args s A D E fo pl out) 17 [(0, .ref (E.1 0)), (1, .int x1), (2, .int x2), (3, .int x3)] [] S := by
  intro H locs ls hP hS hl
  have hX0 := hX
  obtain ⟨hx, hb, hml, hown, hts, hlk, hr, hlv, hV, het⟩ := hX0
  unfold jf_tried_L17 at h
  refine lv_iload_n hx hb dX1_tried_17 rfl (lv_at hl 3 rfl) ?_
  refine lv_iconst hx hb dX1_tried_18 jx_ki1 ?_
  refine lv_iadd hx hb dX1_tried_19 ?_
  refine lv_aload_n hx hb dX1_tried_20 rfl (lv_at hl 0 rfl) ?_
  refine jf_get hx hb hts in_X1 hown hV hP (ci := 1) (k := 10) jf_o0 rfl (by decide) (hts _ q464) rfl rfl dX1_tried_21 ?_
  refine lv_icmp_ge (tgt := 176) hx hb dX1_tried_24 rfl (fun c1 => ?_) (fun c1 => ?_)
  · rw [if_pos c1] at h
    refine lv_aload_n hx hb dX1_tried_176 rfl (lv_at hl 0 rfl) ?_
    refine jf_get hx hb hts in_X1 hown hV hP (ci := 1) (k := 1) jf_o0 rfl (by decide) (hts _ q455) rfl rfl dX1_tried_177 ?_
    refine jf_getN hx hb hts in_X4 hown hV hP (ci := 3) (k := 0) (jf_oP (Or.inl rfl)) rfl (by decide) (jf_l_X1_81 hV.2.2.1) rfl rfl dX1_tried_180 ?_
    refine lv_aload_n hx hb dX1_tried_183 rfl (lv_at hl 0 rfl) ?_
    refine jf_get hx hb hts in_X1 hown hV hP (ci := 1) (k := 5) jf_o0 rfl (by decide) (hts _ q459) rfl rfl dX1_tried_184 ?_
    refine lv_aload_n hx hb dX1_tried_187 rfl (lv_at hl 0 rfl) ?_
    refine jf_get hx hb hts in_X1 hown hV hP (ci := 1) (k := 10) jf_o0 rfl (by decide) (hts _ q464) rfl rfl dX1_tried_188 ?_
    refine lv_iconst hx hb dX1_tried_191 jx_ki1 ?_
    refine lv_isub hx hb dX1_tried_192 ?_
    obtain ⟨j2, ej2, bj2, h⟩ := jx_ga_some h
    refine jf_iald hx hb hV hP jf_a0_5 ej2 bj2 dX1_tried_193 ?_
    obtain ⟨j3, ej3, bj3, h⟩ := jx_ga_some h
    obtain ⟨r4, er4, h⟩ := jx_bi_some h
    refine jf_qald hx hb hV hP (jf_aP0 (Or.inl rfl)) ej3 bj3 er4 dX1_tried_194 (fun r4a r4h => ?_)
    obtain ⟨e5, h⟩ := jx_ge_some h
    have m6 := jo_is8 r4h e5
    obtain ⟨q7, _, hq7, _⟩ := jo_f8 (E := E) (S := S) (fo := fo) m6
    refine va_castS hx hb hown (hts _ q938) (hV.1.1 14 _ rfl).2 (va_recv hV.1 hP.1 (ci := 14) rfl hq7) dX1_tried_195 ?_
    refine lv_astore_n (lv' := [(3, .ref r4a), (0, .ref (E.1 0)), (1, .int x1), (2, .int x2)]) hx hb dX1_tried_198 rfl hl (Nat.le_of_ble_eq_true rfl) rfl (fun ls hl => ?_)
    refine lv_aload_n hx hb dX1_tried_199 rfl (lv_at hl 0 rfl) ?_
    obtain ⟨q8, bq8, hq8, aq8⟩ := jo_f8 (E := E) (S := S) (fo := fo) m6
    refine jf_getN hx hb hts in_X17 hown hV hP (ci := 14) (k := 1) hq8 rfl (by decide) (jf_l_X1_309 hV.2.2.1) rfl rfl dX1_tried_200 ?_
    refine lv_aload_n hx hb dX1_tried_203 rfl (lv_at hl 1 rfl) ?_
    refine jf_get hx hb hts in_X1 hown hV hP (ci := 1) (k := 3) jf_o0 rfl (by decide) (hts _ q457) rfl rfl dX1_tried_204 ?_
    obtain ⟨q9, eq9, h⟩ := jx_bi_some h
    obtain ⟨q10, hq10⟩ := jf_pool (E := E) (S := S) (fo := fo) aq8
    refine jf_callI hx hb hml hown hts hlv hV (ja_of_met aq8 eq9) ja_of_g_X1 ja_of_d (As := [.ref (E.1 5)]) (Nat.le_of_ble_eq_true rfl) (Nat.le_of_ble_eq_true rfl) hP hS (ci := 5) hq10 rfl hl.1 rfl rfl (lv_room (Nat.le_of_ble_eq_true rfl)) dX1_tried_207 (fun H locs hP hS => ?_)
    refine lv_iload_n hx hb dX1_tried_210 rfl (lv_at hl 3 rfl) ?_
    refine lv_icmp_eq (tgt := 229) hx hb dX1_tried_211 rfl (fun c11 => ?_) (fun c11 => ?_)
    · rw [if_pos c11] at h
      refine lv_iconst hx hb dX1_tried_229 jx_ki1 ?_
      refine lv_goto (tgt := 234) hx hb dX1_tried_230 rfl ?_
      exact jf_zret hx hb hr hlk hV hP hS jx_nz1 h dX1_tried_234
    · rw [if_neg c11] at h
      refine lv_aload_n hx hb dX1_tried_214 rfl (lv_at hl 1 rfl) ?_
      refine lv_iload_n hx hb dX1_tried_215 rfl (lv_at hl 2 rfl) ?_
      refine lv_aload_n hx hb dX1_tried_216 rfl (lv_at hl 0 rfl) ?_
      obtain ⟨q12, bq12, hq12, aq12⟩ := jo_f8 (E := E) (S := q9.2) (fo := fo) m6
      refine jf_getN hx hb hts in_X17 hown hV hP (ci := 14) (k := 1) hq12 rfl (by decide) (jf_l_X1_309 hV.2.2.1) rfl rfl dX1_tried_217 ?_
      obtain ⟨q13, hq13⟩ := jf_pool (E := E) (S := q9.2) (fo := fo) aq12
      refine jf_getN hx hb hts in_X7 hown hV hP (ci := 5) (k := 0) hq13 rfl (by decide) (jf_l_X1_272 hV.2.2.1) rfl rfl dX1_tried_220 ?_
      obtain ⟨q14, eq14, h⟩ := jx_bi_some h
      refine jf_callI hx hb hml hown hts hlv hV (jf_can_met eq14) jf_can_g_X1 jf_can_d (As := [.int x1, .int (jo_ac (r4 6))]) (Nat.le_of_ble_eq_true rfl) (Nat.le_of_ble_eq_true rfl) hP hS (ci := 1) jf_o0 rfl hl.1 rfl rfl (lv_room (Nat.le_of_ble_eq_true rfl)) dX1_tried_223 (fun H locs hP hS => ?_)
      refine lv_if_eq (tgt := 233) hx hb dX1_tried_226 rfl (fun c15 => ?_) (fun c15 => ?_)
      · rw [if_pos c15] at h
        refine lv_iconst hx hb dX1_tried_233 jx_ki0 ?_
        exact jf_zret hx hb hr hlk hV hP hS jx_nz0 h dX1_tried_234
      · rw [if_neg c15] at h
        refine lv_iconst hx hb dX1_tried_229 jx_ki1 ?_
        refine lv_goto (tgt := 234) hx hb dX1_tried_230 rfl ?_
        exact jf_zret hx hb hr hlk hV hP hS jx_nz1 h dX1_tried_234
  · rw [if_neg c1] at h
    refine lv_aload_n hx hb dX1_tried_27 rfl (lv_at hl 0 rfl) ?_
    refine jf_get hx hb hts in_X1 hown hV hP (ci := 1) (k := 1) jf_o0 rfl (by decide) (hts _ q455) rfl rfl dX1_tried_28 ?_
    refine jf_getN hx hb hts in_X4 hown hV hP (ci := 3) (k := 0) (jf_oP (Or.inl rfl)) rfl (by decide) (jf_l_X1_81 hV.2.2.1) rfl rfl dX1_tried_31 ?_
    refine lv_aload_n hx hb dX1_tried_34 rfl (lv_at hl 0 rfl) ?_
    refine jf_get hx hb hts in_X1 hown hV hP (ci := 1) (k := 5) jf_o0 rfl (by decide) (hts _ q459) rfl rfl dX1_tried_35 ?_
    refine lv_iload_n hx hb dX1_tried_38 rfl (lv_at hl 3 rfl) ?_
    obtain ⟨j16, ej16, bj16, h⟩ := jx_ga_some h
    refine jf_iald hx hb hV hP jf_a0_5 ej16 bj16 dX1_tried_39 ?_
    obtain ⟨j17, ej17, bj17, h⟩ := jx_ga_some h
    obtain ⟨r18, er18, h⟩ := jx_bi_some h
    refine jf_qald hx hb hV hP (jf_aP0 (Or.inl rfl)) ej17 bj17 er18 dX1_tried_40 (fun r18a r18h => ?_)
    refine lv_astore (lv' := [(4, .ref r18a), (0, .ref (E.1 0)), (1, .int x1), (2, .int x2), (3, .int x3)]) hx hb dX1_tried_41 hl (Nat.le_of_ble_eq_true rfl) rfl (fun ls hl => ?_)
    refine lv_aload_n hx hb dX1_tried_43 rfl (lv_at hl 1 rfl) ?_
    refine lv_iload_n hx hb dX1_tried_44 rfl (lv_at hl 2 rfl) ?_
    refine lv_aload_n hx hb dX1_tried_45 rfl (lv_at hl 1 rfl) ?_
    refine jf_get hx hb hts in_X1 hown hV hP (ci := 1) (k := 5) jf_o0 rfl (by decide) (hts _ q459) rfl rfl dX1_tried_46 ?_
    refine lv_iload_n hx hb dX1_tried_49 rfl (lv_at hl 4 rfl) ?_
    obtain ⟨j19, ej19, bj19, h⟩ := jx_ga_some h
    refine jf_iald hx hb hV hP jf_a0_5 ej19 bj19 dX1_tried_50 ?_
    refine lv_aload_n hx hb dX1_tried_51 rfl (lv_at hl 1 rfl) ?_
    refine jf_get hx hb hts in_X1 hown hV hP (ci := 1) (k := 5) jf_o0 rfl (by decide) (hts _ q459) rfl rfl dX1_tried_52 ?_
    refine lv_iload_n hx hb dX1_tried_55 rfl (lv_at hl 4 rfl) ?_
    refine lv_iconst hx hb dX1_tried_56 jx_ki1 ?_
    refine lv_iadd hx hb dX1_tried_57 ?_
    obtain ⟨j20, ej20, bj20, h⟩ := jx_ga_some h
    refine jf_iald hx hb hV hP jf_a0_5 ej20 bj20 dX1_tried_58 ?_
    obtain ⟨q21, eq21, h⟩ := jx_bi_some h
    refine jf_callV hx hb hml hown hts hlv hV (jf_bends_met eq21) jf_bends_g_X1 jf_bends_d (As := [.int x1, .int (S.2.2.1 0 5 j19), .int (S.2.2.1 0 5 j20)]) (Nat.le_of_ble_eq_true rfl) (Nat.le_of_ble_eq_true rfl) hP hS (ci := 1) jf_o0 rfl hl.1 rfl rfl (lv_room (Nat.le_of_ble_eq_true rfl)) dX1_tried_59 (fun H locs hP hS => ?_)
    refine lv_aload hx hb dX1_tried_62 (lv_at hl 0 rfl) ?_
    obtain ⟨q22, eq22, h⟩ := jx_bi_some h
    refine jv_word_X1 hx hb hml hown hts hlv hV r18h eq22 (Nat.le_of_ble_eq_true rfl) hP hS hl.1 rfl rfl (lv_room (Nat.le_of_ble_eq_true rfl)) dX1_tried_64 (fun H locs hP hS => ?_)
    refine lv_bipush hx hb dX1_tried_67 jx_kb7 ?_
    refine lv_icmp_ne (tgt := 128) hx hb dX1_tried_69 rfl (fun c23 => ?_) (fun c23 => ?_)
    · rw [if_neg c23] at h
      exact jf_tried_b128_ok hX F hr17 _ _ _ _ h _ _ _ hP hS (lv_sub hl [1, 2, 3, 4] rfl)
    · rw [if_pos c23] at h
      refine lv_aload_n hx hb dX1_tried_72 rfl (lv_at hl 1 rfl) ?_
      refine jf_get hx hb hts in_X1 hown hV hP (ci := 1) (k := 1) jf_o0 rfl (by decide) (hts _ q455) rfl rfl dX1_tried_73 ?_
      refine jf_getN hx hb hts in_X4 hown hV hP (ci := 3) (k := 1) (jf_oP (Or.inl rfl)) rfl (by decide) (jf_l_X1_128 hV.2.2.1) rfl rfl dX1_tried_76 ?_
      refine lv_aload_n hx hb dX1_tried_79 rfl (lv_at hl 1 rfl) ?_
      refine jf_get hx hb hts in_X1 hown hV hP (ci := 1) (k := 5) jf_o0 rfl (by decide) (hts _ q459) rfl rfl dX1_tried_80 ?_
      refine lv_iload_n hx hb dX1_tried_83 rfl (lv_at hl 4 rfl) ?_
      obtain ⟨j24, ej24, bj24, h⟩ := jx_ga_some h
      refine jf_iald hx hb hV hP jf_a0_5 ej24 bj24 dX1_tried_84 ?_
      obtain ⟨j25, ej25, bj25, h⟩ := jx_ga_some h
      refine jf_iald hx hb hV hP (jf_aP1 (Or.inl rfl)) ej25 bj25 dX1_tried_85 ?_
      refine lv_iconst hx hb dX1_tried_86 jx_ki3 ?_
      refine lv_icmp_lt (tgt := 128) hx hb dX1_tried_87 rfl (fun c26 => ?_) (fun c26 => ?_)
      · rw [if_pos c26] at h
        exact jf_tried_b128_ok hX F hr17 _ _ _ _ h _ _ _ hP hS (lv_sub hl [1, 2, 3, 4] rfl)
      · rw [if_neg c26] at h
        refine lv_aload_n hx hb dX1_tried_90 rfl (lv_at hl 1 rfl) ?_
        refine jf_get hx hb hts in_X1 hown hV hP (ci := 1) (k := 3) jf_o0 rfl (by decide) (hts _ q457) rfl rfl dX1_tried_91 ?_
        refine jf_getN hx hb hts in_X5 hown hV hP (ci := 4) (k := 8) jf_o5 rfl (by decide) (jf_l_X1_285 hV.2.2.1) rfl rfl dX1_tried_94 ?_
        refine lv_if_eq (tgt := 128) hx hb dX1_tried_97 rfl (fun c27 => ?_) (fun c27 => ?_)
        · rw [if_pos c27] at h
          exact jf_tried_b128_ok hX F hr17 _ _ _ _ h _ _ _ hP hS (lv_sub hl [1, 2, 3, 4] rfl)
        · rw [if_neg c27] at h
          refine lv_aload_n hx hb dX1_tried_100 rfl (lv_at hl 1 rfl) ?_
          refine jf_get hx hb hts in_X1 hown hV hP (ci := 1) (k := 3) jf_o0 rfl (by decide) (hts _ q457) rfl rfl dX1_tried_101 ?_
          refine jf_getN hx hb hts in_X5 hown hV hP (ci := 4) (k := 4) jf_o5 rfl (by decide) (jf_l_X1_301 hV.2.2.1) rfl rfl dX1_tried_104 ?_
          refine lv_aload_n hx hb dX1_tried_107 rfl (lv_at hl 1 rfl) ?_
          refine jf_get hx hb hts in_X1 hown hV hP (ci := 1) (k := 3) jf_o0 rfl (by decide) (hts _ q457) rfl rfl dX1_tried_108 ?_
          refine jf_getN hx hb hts in_X5 hown hV hP (ci := 4) (k := 8) jf_o5 rfl (by decide) (jf_l_X1_285 hV.2.2.1) rfl rfl dX1_tried_111 ?_
          refine lv_iconst hx hb dX1_tried_114 jx_ki1 ?_
          refine lv_isub hx hb dX1_tried_115 ?_
          obtain ⟨j28, ej28, bj28, h⟩ := jx_ga_some h
          refine jf_iald hx hb hV hP jf_a5_4 ej28 bj28 dX1_tried_116 ?_
          refine lv_aload_n hx hb dX1_tried_117 rfl (lv_at hl 1 rfl) ?_
          refine jf_get hx hb hts in_X1 hown hV hP (ci := 1) (k := 5) jf_o0 rfl (by decide) (hts _ q459) rfl rfl dX1_tried_118 ?_
          refine lv_iload_n hx hb dX1_tried_121 rfl (lv_at hl 4 rfl) ?_
          refine lv_iconst hx hb dX1_tried_122 jx_ki1 ?_
          refine lv_iadd hx hb dX1_tried_123 ?_
          obtain ⟨j29, ej29, bj29, h⟩ := jx_ga_some h
          refine jf_iald hx hb hV hP jf_a0_5 ej29 bj29 dX1_tried_124 ?_
          refine lv_icmp_ne (tgt := 132) hx hb dX1_tried_125 rfl (fun c30 => ?_) (fun c30 => ?_)
          · rw [if_neg c30] at h
            refine lv_iconst hx hb dX1_tried_132 jx_ki0 ?_
            exact jf_tried_b133_ok hX F hr17 _ _ _ _ _ h _ _ _ hP hS (lv_sub hl [1, 2, 3, 4] rfl)
          · rw [if_pos c30] at h
            exact jf_tried_b128_ok hX F hr17 _ _ _ _ h _ _ _ hP hS (lv_sub hl [1, 2, 3, 4] rfl)
theorem jf_tried_h17_ok {out : Int32 × jf_S} (hX : jf_Ok RX1 p R s m args meth c A D E cX1_tried 6 (some .boolean) 7) (F : Nat) (n : Nat) (a : Int32 × Int32 × Int32 × jf_S) (h : jf_tried_h17 F n a = some out) : jf_J p l e R s m args below meth c A D E fo pl 6 (jf_Qi below args s A D E fo pl out) 17 [(0, .ref (E.1 0)), (1, .int a.1), (2, .int a.2.1), (3, .int a.2.2.1)] [] a.2.2.2 :=
  jx_loop_ind (J := fun a => jf_J p l e R s m args below meth c A D E fo pl 6 (jf_Qi below args s A D E fo pl out) 17 [(0, .ref (E.1 0)), (1, .int a.1), (2, .int a.2.1), (3, .int a.2.2.1)] [] a.2.2.2) (fun r hr a h => jf_tried_L17_ok hX F hr a.1 a.2.1 a.2.2.1 a.2.2.2 h) n a h
theorem jf_tried_ok {out : Int32 × jf_S} (hX : jf_Ok RX1 p R s m args meth c A D E cX1_tried 6 (some .boolean) 7) (F : Nat) (x1 : Int32) (x2 : Int32) (S : jf_S) (h : jf_tried F x1 x2 S = some out) : jf_J p l e R s m args below meth c A D E fo pl 6 (jf_Qi below args s A D E fo pl out) 0 [(0, .ref (E.1 0)), (1, .int x1), (2, .int x2)] [] S := by
  intro H locs ls hP hS hl
  have hX0 := hX
  obtain ⟨hx, hb, hml, hown, hts, hlk, hr, hlv, hV, het⟩ := hX0
  unfold jf_tried at h
  refine lv_aload_n hx hb dX1_tried_0 rfl (lv_at hl 0 rfl) ?_
  refine jf_get hx hb hts in_X1 hown hV hP (ci := 1) (k := 3) jf_o0 rfl (by decide) (hts _ q457) rfl rfl dX1_tried_1 ?_
  obtain ⟨q1, eq1, h⟩ := jx_bi_some h
  refine jf_callV hx hb hml hown hts hlv hV (jk_begins_met eq1) jk_begins_g_X1 jk_begins_d (As := []) (Nat.le_of_ble_eq_true rfl) (Nat.le_of_ble_eq_true rfl) hP hS (ci := 4) jf_o5 rfl hl.1 rfl rfl (lv_room (Nat.le_of_ble_eq_true rfl)) dX1_tried_4 (fun H locs hP hS => ?_)
  refine lv_aload_n hx hb dX1_tried_7 rfl (lv_at hl 0 rfl) ?_
  refine jf_get hx hb hts in_X1 hown hV hP (ci := 1) (k := 3) jf_o0 rfl (by decide) (hts _ q457) rfl rfl dX1_tried_8 ?_
  refine lv_iconst hx hb dX1_tried_11 jx_ki0 ?_
  obtain ⟨S2, eS2, h⟩ := jx_nx_some h
  refine jf_putN (S1 := S2) hx hb hts in_X5 tyX5_ok nmX5 hown hV hP hS (ci := 4) (k := 18) (by rw [eS2]; rfl) jf_o5 (by rw [eS2]; exact jf_s5_18 _) rfl (by decide) (jf_l_X1_293 hV.2.2.1) rfl rfl (tyX5_ok 18 (by decide)) jx_nz0 (Nat.le_of_ble_eq_true rfl) dX1_tried_12 (fun H locs hP hS => ?_)
  refine lv_iconst hx hb dX1_tried_15 jx_ki0 ?_
  obtain ⟨y3, ey3, h⟩ := jx_nx_some h
  refine jx_topi ey3 ?_
  refine lv_istore_n (lv' := [(3, .int y3), (0, .ref (E.1 0)), (1, .int x1), (2, .int x2)]) hx hb dX1_tried_16 rfl hl (Nat.le_of_ble_eq_true rfl) rfl (fun ls hl => ?_)
  exact jf_tried_h17_ok hX F F _ h _ _ _ hP hS (lv_sub hl [1, 2, 3, 0] rfl)
theorem jf_tried_met {l : Launch} {D : va_G} {E : jf_E} {A : Nat → Prop} {fo : Nat → Nat → Option Nat} {pl : va_W} {F : Nat} {x1 : Int32} {x2 : Int32} {S : jf_S} {out : Int32 × jf_S} (h : jf_tried F x1 x2 S = some out) : jf_Mi l D E A fo pl yX1_tried cX1_tried 6 (some .boolean) 7 [.ref (E.1 0), .int x1, .int x2] S out :=
  jf_Mi_of (own := RX1) ⟨by decide, rfl, Nat.le_of_ble_eq_true rfl⟩ (fun hX => jf_tried_ok hX F x1 x2 S h)
theorem jf_reaches_g_X1 : GoodIn lw_all (wsV RX1 324 RX1 yX1_reaches (ws_ yX1_reaches cX1_reaches 3 (some .int))) := lw_V q865 q867 qs10 q102 q868
theorem jf_reaches_d : yX1_reaches.cls = RX1 ∧ yX1_reaches.cls ≠ "java/lang/invoke/MethodHandle" ∧ yX1_reaches.cls ≠ "java/lang/invoke/VarHandle" ∧ (parseMethodDescriptor yX1_reaches.desc).map (fun d => d.parameters.length) = some 2 := by decide +kernel
theorem jf_reaches_ok {out : Int32 × jf_S} (hX : jf_Ok RX1 p R s m args meth c A D E cX1_reaches 3 (some .int) 8) (F : Nat) (x1 : Int32) (x2 : Int32) (S : jf_S) (h : jf_reaches F x1 x2 S = some out) : jf_J p l e R s m args below meth c A D E fo pl 3 (jf_Qi below args s A D E fo pl out) 0 [(0, .ref (E.1 0)), (1, .int x1), (2, .int x2)] [] S := by
  intro H locs ls hP hS hl
  have hX0 := hX
  obtain ⟨hx, hb, hml, hown, hts, hlk, hr, hlv, hV, het⟩ := hX0
  unfold jf_reaches at h
  refine lv_aload_n hx hb dX1_reaches_0 rfl (lv_at hl 0 rfl) ?_
  refine lv_iload_n hx hb dX1_reaches_1 rfl (lv_at hl 1 rfl) ?_
  refine lv_iload_n hx hb dX1_reaches_2 rfl (lv_at hl 2 rfl) ?_
  obtain ⟨q1, eq1, h⟩ := jx_bi_some h
  refine jf_callI hx hb hml hown hts hlv hV (jf_finds_met eq1) jf_finds_g_X1 jf_finds_d (As := [.int x1, .int x2]) (Nat.le_of_ble_eq_true rfl) (Nat.le_of_ble_eq_true rfl) hP hS (ci := 1) jf_o0 rfl hl.1 rfl rfl (lv_room (Nat.le_of_ble_eq_true rfl)) dX1_reaches_3 (fun H locs hP hS => ?_)
  refine lv_if_ne (tgt := 11) hx hb dX1_reaches_6 rfl (fun c2 => ?_) (fun c2 => ?_)
  · rw [if_neg c2] at h
    refine lv_aload_n hx hb dX1_reaches_11 rfl (lv_at hl 0 rfl) ?_
    refine lv_iload_n hx hb dX1_reaches_12 rfl (lv_at hl 1 rfl) ?_
    refine lv_aload_n hx hb dX1_reaches_13 rfl (lv_at hl 0 rfl) ?_
    refine jf_get hx hb hts in_X1 hown hV hP (ci := 1) (k := 1) jf_o0 rfl (by decide) (hts _ q455) rfl rfl dX1_reaches_14 ?_
    refine jf_getN hx hb hts in_X4 hown hV hP (ci := 3) (k := 4) (jf_oP (Or.inl rfl)) rfl (by decide) (jf_l_X1_237 hV.2.2.1) rfl rfl dX1_reaches_17 ?_
    refine lv_iload_n hx hb dX1_reaches_20 rfl (lv_at hl 2 rfl) ?_
    obtain ⟨j3, ej3, bj3, h⟩ := jx_ga_some h
    refine jf_iald hx hb hV hP (jf_aP4 (Or.inl rfl)) ej3 bj3 dX1_reaches_21 ?_
    obtain ⟨q4, eq4, h⟩ := jx_bi_some h
    refine jf_callI hx hb hml hown hts hlv hV (jf_tried_met eq4) jf_tried_g_X1 jf_tried_d (As := [.int x1, .int (q1.2.2.2.1 3 4 j3)]) (Nat.le_of_ble_eq_true rfl) (Nat.le_of_ble_eq_true rfl) hP hS (ci := 1) jf_o0 rfl hl.1 rfl rfl (lv_room (Nat.le_of_ble_eq_true rfl)) dX1_reaches_22 (fun H locs hP hS => ?_)
    refine lv_if_eq (tgt := 32) hx hb dX1_reaches_25 rfl (fun c5 => ?_) (fun c5 => ?_)
    · rw [if_pos c5] at h
      refine lv_iconst hx hb dX1_reaches_32 jx_ki2 ?_
      exact jf_iret hx hb hr hlk hV hP hS h dX1_reaches_33
    · rw [if_neg c5] at h
      refine lv_iconst hx hb dX1_reaches_28 jx_ki1 ?_
      refine lv_goto (tgt := 33) hx hb dX1_reaches_29 rfl ?_
      exact jf_iret hx hb hr hlk hV hP hS h dX1_reaches_33
  · rw [if_pos c2] at h
    refine lv_iconst hx hb dX1_reaches_9 jx_ki0 ?_
    exact jf_iret hx hb hr hlk hV hP hS h dX1_reaches_10
theorem jf_reaches_met {l : Launch} {D : va_G} {E : jf_E} {A : Nat → Prop} {fo : Nat → Nat → Option Nat} {pl : va_W} {F : Nat} {x1 : Int32} {x2 : Int32} {S : jf_S} {out : Int32 × jf_S} (h : jf_reaches F x1 x2 S = some out) : jf_Mi l D E A fo pl yX1_reaches cX1_reaches 3 (some .int) 8 [.ref (E.1 0), .int x1, .int x2] S out :=
  jf_Mi_of (own := RX1) ⟨by decide, rfl, Nat.le_of_ble_eq_true rfl⟩ (fun hX => jf_reaches_ok hX F x1 x2 S h)
theorem jf_count_d : yX1_count.cls = RX1 ∧ yX1_count.cls ≠ "java/lang/invoke/MethodHandle" ∧ yX1_count.cls ≠ "java/lang/invoke/VarHandle" ∧ (parseMethodDescriptor yX1_count.desc).map (fun d => d.parameters.length) = some 1 := by decide +kernel
theorem jf_count_b98_ok {out : Int32 × jf_S} (hX : jf_Ok RX1 p R s m args meth c A D E cX1_count 5 (some .int) 9) (F : Nat) {r66 : Int32 × Int32 × jf_S → Option (Int32 × jf_S)} (hr66 : ∀ a, r66 a = some out → jf_J p l e R s m args below meth c A D E fo pl 5 (jf_Qi below args s A D E fo pl out) 66 [(0, .ref (E.1 0)), (2, .int a.1), (3, .int a.2.1)] [] a.2.2) (x3 : Int32) (k0 : Int32) (k1 : Int32) (S : jf_S) (h : jf_count_b98 F r66 x3 k0 k1 S = some out) : jf_J p l e R s m args below meth c A D E fo pl 5 (jf_Qi below args s A D E fo pl out) 98 [(0, .ref (E.1 0)), (3, .int x3)] [.int k0, .int k1] S := by
  intro H locs ls hP hS hl
  have hX0 := hX
  obtain ⟨hx, hb, hml, hown, hts, hlk, hr, hlv, hV, het⟩ := hX0
  unfold jf_count_b98 at h
  refine lv_iadd hx hb dX1_count_98 ?_
  obtain ⟨y1, ey1, h⟩ := jx_nx_some h
  refine jx_topi ey1 ?_
  refine lv_istore_n (lv' := [(2, .int y1), (0, .ref (E.1 0)), (3, .int x3)]) hx hb dX1_count_99 rfl hl (Nat.le_of_ble_eq_true rfl) rfl (fun ls hl => ?_)
  obtain ⟨y2, ey2, h⟩ := jx_nx_some h
  refine lv_iinc (v := y2) (lv' := [(3, .int y2), (2, .int y1), (0, .ref (E.1 0))]) hx hb dX1_count_100 hl (k := 2) rfl (jx_inc jx_ki1 ey2) (Nat.le_of_ble_eq_true rfl) rfl (fun ls hl => ?_)
  refine lv_goto (tgt := 66) hx hb dX1_count_103 rfl ?_
  exact hr66 _ h _ _ _ hP hS (lv_sub hl [2, 1, 0] rfl)
theorem jf_count_L66_ok {out : Int32 × jf_S} (hX : jf_Ok RX1 p R s m args meth c A D E cX1_count 5 (some .int) 9) (F : Nat) {r66 : Int32 × Int32 × jf_S → Option (Int32 × jf_S)} (hr66 : ∀ a, r66 a = some out → jf_J p l e R s m args below meth c A D E fo pl 5 (jf_Qi below args s A D E fo pl out) 66 [(0, .ref (E.1 0)), (2, .int a.1), (3, .int a.2.1)] [] a.2.2) (x2 : Int32) (x3 : Int32) (S : jf_S) (h : jf_count_L66 F r66 x2 x3 S = some out) : jf_J p l e R s m args below meth c A D E fo pl 5 (jf_Qi below args s A D E fo pl out) 66 [(0, .ref (E.1 0)), (2, .int x2), (3, .int x3)] [] S := by
  intro H locs ls hP hS hl
  have hX0 := hX
  obtain ⟨hx, hb, hml, hown, hts, hlk, hr, hlv, hV, het⟩ := hX0
  unfold jf_count_L66 at h
  refine lv_iload_n hx hb dX1_count_66 rfl (lv_at hl 2 rfl) ?_
  refine lv_aload_n hx hb dX1_count_67 rfl (lv_at hl 0 rfl) ?_
  refine jf_get hx hb hts in_X1 hown hV hP (ci := 1) (k := 1) jf_o0 rfl (by decide) (hts _ q455) rfl rfl dX1_count_68 ?_
  refine jf_getN hx hb hts in_X4 hown hV hP (ci := 3) (k := 13) (jf_oP (Or.inl rfl)) rfl (by decide) (jf_l_X1_70 hV.2.2.1) rfl rfl dX1_count_71 ?_
  refine lv_icmp_ge (tgt := 106) hx hb dX1_count_74 rfl (fun c1 => ?_) (fun c1 => ?_)
  · rw [if_pos c1] at h
    refine lv_iload_n hx hb dX1_count_106 rfl (lv_at hl 1 rfl) ?_
    exact jf_iret hx hb hr hlk hV hP hS h dX1_count_107
  · rw [if_neg c1] at h
    refine lv_iload_n hx hb dX1_count_77 rfl (lv_at hl 1 rfl) ?_
    refine lv_aload_n hx hb dX1_count_78 rfl (lv_at hl 0 rfl) ?_
    refine jf_get hx hb hts in_X1 hown hV hP (ci := 1) (k := 1) jf_o0 rfl (by decide) (hts _ q455) rfl rfl dX1_count_79 ?_
    refine jf_getN hx hb hts in_X4 hown hV hP (ci := 3) (k := 0) (jf_oP (Or.inl rfl)) rfl (by decide) (jf_l_X1_81 hV.2.2.1) rfl rfl dX1_count_82 ?_
    refine lv_iload_n hx hb dX1_count_85 rfl (lv_at hl 2 rfl) ?_
    obtain ⟨j2, ej2, bj2, h⟩ := jx_ga_some h
    obtain ⟨r3, er3, h⟩ := jx_bi_some h
    refine jf_qald hx hb hV hP (jf_aP0 (Or.inl rfl)) ej2 bj2 er3 dX1_count_86 (fun r3a r3h => ?_)
    obtain ⟨q4, eq4, h⟩ := jx_bi_some h
    refine jv_isJump_X1 hx hb hml hown hts hlv hV r3h eq4 (Nat.le_of_ble_eq_true rfl) hP hS hl.1 rfl rfl (lv_room (Nat.le_of_ble_eq_true rfl)) dX1_count_87 (fun H locs hP hS => ?_)
    refine lv_if_eq (tgt := 97) hx hb dX1_count_90 rfl (fun c5 => ?_) (fun c5 => ?_)
    · rw [if_pos c5] at h
      refine lv_iconst hx hb dX1_count_97 jx_ki0 ?_
      exact jf_count_b98_ok hX F hr66 _ _ _ _ h _ _ _ hP hS (lv_sub hl [0, 2] rfl)
    · rw [if_neg c5] at h
      refine lv_iconst hx hb dX1_count_93 jx_ki1 ?_
      refine lv_goto (tgt := 98) hx hb dX1_count_94 rfl ?_
      exact jf_count_b98_ok hX F hr66 _ _ _ _ h _ _ _ hP hS (lv_sub hl [0, 2] rfl)
theorem jf_count_h66_ok {out : Int32 × jf_S} (hX : jf_Ok RX1 p R s m args meth c A D E cX1_count 5 (some .int) 9) (F : Nat) (n : Nat) (a : Int32 × Int32 × jf_S) (h : jf_count_h66 F n a = some out) : jf_J p l e R s m args below meth c A D E fo pl 5 (jf_Qi below args s A D E fo pl out) 66 [(0, .ref (E.1 0)), (2, .int a.1), (3, .int a.2.1)] [] a.2.2 :=
  jx_loop_ind (J := fun a => jf_J p l e R s m args below meth c A D E fo pl 5 (jf_Qi below args s A D E fo pl out) 66 [(0, .ref (E.1 0)), (2, .int a.1), (3, .int a.2.1)] [] a.2.2) (fun r hr a h => jf_count_L66_ok hX F hr a.1 a.2.1 a.2.2 h) n a h
theorem jf_count_b135_ok {out : Int32 × jf_S} (hX : jf_Ok RX1 p R s m args meth c A D E cX1_count 5 (some .int) 9) (F : Nat) {r110 : Int32 × Int32 × jf_S → Option (Int32 × jf_S)} (hr110 : ∀ a, r110 a = some out → jf_J p l e R s m args below meth c A D E fo pl 5 (jf_Qi below args s A D E fo pl out) 110 [(0, .ref (E.1 0)), (2, .int a.1), (3, .int a.2.1)] [] a.2.2) (x3 : Int32) (k0 : Int32) (k1 : Int32) (S : jf_S) (h : jf_count_b135 F r110 x3 k0 k1 S = some out) : jf_J p l e R s m args below meth c A D E fo pl 5 (jf_Qi below args s A D E fo pl out) 135 [(0, .ref (E.1 0)), (3, .int x3)] [.int k0, .int k1] S := by
  intro H locs ls hP hS hl
  have hX0 := hX
  obtain ⟨hx, hb, hml, hown, hts, hlk, hr, hlv, hV, het⟩ := hX0
  unfold jf_count_b135 at h
  refine lv_iadd hx hb dX1_count_135 ?_
  obtain ⟨y1, ey1, h⟩ := jx_nx_some h
  refine jx_topi ey1 ?_
  refine lv_istore_n (lv' := [(2, .int y1), (0, .ref (E.1 0)), (3, .int x3)]) hx hb dX1_count_136 rfl hl (Nat.le_of_ble_eq_true rfl) rfl (fun ls hl => ?_)
  obtain ⟨y2, ey2, h⟩ := jx_nx_some h
  refine lv_iinc (v := y2) (lv' := [(3, .int y2), (2, .int y1), (0, .ref (E.1 0))]) hx hb dX1_count_137 hl (k := 2) rfl (jx_inc jx_ki1 ey2) (Nat.le_of_ble_eq_true rfl) rfl (fun ls hl => ?_)
  refine lv_goto (tgt := 110) hx hb dX1_count_140 rfl ?_
  exact hr110 _ h _ _ _ hP hS (lv_sub hl [2, 1, 0] rfl)
theorem jf_count_L110_ok {out : Int32 × jf_S} (hX : jf_Ok RX1 p R s m args meth c A D E cX1_count 5 (some .int) 9) (F : Nat) {r110 : Int32 × Int32 × jf_S → Option (Int32 × jf_S)} (hr110 : ∀ a, r110 a = some out → jf_J p l e R s m args below meth c A D E fo pl 5 (jf_Qi below args s A D E fo pl out) 110 [(0, .ref (E.1 0)), (2, .int a.1), (3, .int a.2.1)] [] a.2.2) (x2 : Int32) (x3 : Int32) (S : jf_S) (h : jf_count_L110 F r110 x2 x3 S = some out) : jf_J p l e R s m args below meth c A D E fo pl 5 (jf_Qi below args s A D E fo pl out) 110 [(0, .ref (E.1 0)), (2, .int x2), (3, .int x3)] [] S := by
  intro H locs ls hP hS hl
  have hX0 := hX
  obtain ⟨hx, hb, hml, hown, hts, hlk, hr, hlv, hV, het⟩ := hX0
  unfold jf_count_L110 at h
  refine lv_iload_n hx hb dX1_count_110 rfl (lv_at hl 2 rfl) ?_
  refine lv_aload_n hx hb dX1_count_111 rfl (lv_at hl 0 rfl) ?_
  refine jf_get hx hb hts in_X1 hown hV hP (ci := 1) (k := 1) jf_o0 rfl (by decide) (hts _ q455) rfl rfl dX1_count_112 ?_
  refine jf_getN hx hb hts in_X4 hown hV hP (ci := 3) (k := 13) (jf_oP (Or.inl rfl)) rfl (by decide) (jf_l_X1_70 hV.2.2.1) rfl rfl dX1_count_115 ?_
  refine lv_icmp_ge (tgt := 143) hx hb dX1_count_118 rfl (fun c1 => ?_) (fun c1 => ?_)
  · rw [if_pos c1] at h
    refine lv_iload_n hx hb dX1_count_143 rfl (lv_at hl 1 rfl) ?_
    exact jf_iret hx hb hr hlk hV hP hS h dX1_count_144
  · rw [if_neg c1] at h
    refine lv_iload_n hx hb dX1_count_121 rfl (lv_at hl 1 rfl) ?_
    refine lv_aload_n hx hb dX1_count_122 rfl (lv_at hl 0 rfl) ?_
    refine lv_iload_n hx hb dX1_count_123 rfl (lv_at hl 2 rfl) ?_
    obtain ⟨q2, eq2, h⟩ := jx_bi_some h
    refine jf_callI hx hb hml hown hts hlv hV (jf_isGuarded_met eq2) jf_isGuarded_g_X1 jf_isGuarded_d (As := [.int x3]) (Nat.le_of_ble_eq_true rfl) (Nat.le_of_ble_eq_true rfl) hP hS (ci := 1) jf_o0 rfl hl.1 rfl rfl (lv_room (Nat.le_of_ble_eq_true rfl)) dX1_count_124 (fun H locs hP hS => ?_)
    refine lv_if_eq (tgt := 134) hx hb dX1_count_127 rfl (fun c3 => ?_) (fun c3 => ?_)
    · rw [if_pos c3] at h
      refine lv_iconst hx hb dX1_count_134 jx_ki0 ?_
      exact jf_count_b135_ok hX F hr110 _ _ _ _ h _ _ _ hP hS (lv_sub hl [0, 2] rfl)
    · rw [if_neg c3] at h
      refine lv_iconst hx hb dX1_count_130 jx_ki1 ?_
      refine lv_goto (tgt := 135) hx hb dX1_count_131 rfl ?_
      exact jf_count_b135_ok hX F hr110 _ _ _ _ h _ _ _ hP hS (lv_sub hl [0, 2] rfl)
theorem jf_count_h110_ok {out : Int32 × jf_S} (hX : jf_Ok RX1 p R s m args meth c A D E cX1_count 5 (some .int) 9) (F : Nat) (n : Nat) (a : Int32 × Int32 × jf_S) (h : jf_count_h110 F n a = some out) : jf_J p l e R s m args below meth c A D E fo pl 5 (jf_Qi below args s A D E fo pl out) 110 [(0, .ref (E.1 0)), (2, .int a.1), (3, .int a.2.1)] [] a.2.2 :=
  jx_loop_ind (J := fun a => jf_J p l e R s m args below meth c A D E fo pl 5 (jf_Qi below args s A D E fo pl out) 110 [(0, .ref (E.1 0)), (2, .int a.1), (3, .int a.2.1)] [] a.2.2) (fun r hr a h => jf_count_L110_ok hX F hr a.1 a.2.1 a.2.2 h) n a h
theorem jf_count_b204_ok {out : Int32 × jf_S} (hX : jf_Ok RX1 p R s m args meth c A D E cX1_count 5 (some .int) 9) (F : Nat) {r171 : Int32 × Int32 × jf_S → Option (Int32 × jf_S)} (hr171 : ∀ a, r171 a = some out → jf_J p l e R s m args below meth c A D E fo pl 5 (jf_Qi below args s A D E fo pl out) 171 [(0, .ref (E.1 0)), (2, .int a.1), (3, .int a.2.1)] [] a.2.2) (x3 : Int32) (k0 : Int32) (k1 : Int32) (S : jf_S) (h : jf_count_b204 F r171 x3 k0 k1 S = some out) : jf_J p l e R s m args below meth c A D E fo pl 5 (jf_Qi below args s A D E fo pl out) 204 [(0, .ref (E.1 0)), (3, .int x3)] [.int k0, .int k1] S := by
  intro H locs ls hP hS hl
  have hX0 := hX
  obtain ⟨hx, hb, hml, hown, hts, hlk, hr, hlv, hV, het⟩ := hX0
  unfold jf_count_b204 at h
  refine lv_iadd hx hb dX1_count_204 ?_
  obtain ⟨y1, ey1, h⟩ := jx_nx_some h
  refine jx_topi ey1 ?_
  refine lv_istore_n (lv' := [(2, .int y1), (0, .ref (E.1 0)), (3, .int x3)]) hx hb dX1_count_205 rfl hl (Nat.le_of_ble_eq_true rfl) rfl (fun ls hl => ?_)
  obtain ⟨y2, ey2, h⟩ := jx_nx_some h
  refine lv_iinc (v := y2) (lv' := [(3, .int y2), (2, .int y1), (0, .ref (E.1 0))]) hx hb dX1_count_206 hl (k := 2) rfl (jx_inc jx_ki1 ey2) (Nat.le_of_ble_eq_true rfl) rfl (fun ls hl => ?_)
  refine lv_goto (tgt := 171) hx hb dX1_count_209 rfl ?_
  exact hr171 _ h _ _ _ hP hS (lv_sub hl [2, 1, 0] rfl)
theorem jf_count_L171_ok {out : Int32 × jf_S} (hX : jf_Ok RX1 p R s m args meth c A D E cX1_count 5 (some .int) 9) (F : Nat) {r171 : Int32 × Int32 × jf_S → Option (Int32 × jf_S)} (hr171 : ∀ a, r171 a = some out → jf_J p l e R s m args below meth c A D E fo pl 5 (jf_Qi below args s A D E fo pl out) 171 [(0, .ref (E.1 0)), (2, .int a.1), (3, .int a.2.1)] [] a.2.2) (x2 : Int32) (x3 : Int32) (S : jf_S) (h : jf_count_L171 F r171 x2 x3 S = some out) : jf_J p l e R s m args below meth c A D E fo pl 5 (jf_Qi below args s A D E fo pl out) 171 [(0, .ref (E.1 0)), (2, .int x2), (3, .int x3)] [] S := by
  intro H locs ls hP hS hl
  have hX0 := hX
  obtain ⟨hx, hb, hml, hown, hts, hlk, hr, hlv, hV, het⟩ := hX0
  unfold jf_count_L171 at h
  refine lv_iload_n hx hb dX1_count_171 rfl (lv_at hl 2 rfl) ?_
  refine lv_aload_n hx hb dX1_count_172 rfl (lv_at hl 0 rfl) ?_
  refine jf_get hx hb hts in_X1 hown hV hP (ci := 1) (k := 1) jf_o0 rfl (by decide) (hts _ q455) rfl rfl dX1_count_173 ?_
  refine jf_getN hx hb hts in_X4 hown hV hP (ci := 3) (k := 13) (jf_oP (Or.inl rfl)) rfl (by decide) (jf_l_X1_70 hV.2.2.1) rfl rfl dX1_count_176 ?_
  refine lv_icmp_ge (tgt := 212) hx hb dX1_count_179 rfl (fun c1 => ?_) (fun c1 => ?_)
  · rw [if_pos c1] at h
    refine lv_iload_n hx hb dX1_count_212 rfl (lv_at hl 1 rfl) ?_
    exact jf_iret hx hb hr hlk hV hP hS h dX1_count_213
  · rw [if_neg c1] at h
    refine lv_iload_n hx hb dX1_count_182 rfl (lv_at hl 1 rfl) ?_
    refine lv_aload_n hx hb dX1_count_183 rfl (lv_at hl 0 rfl) ?_
    refine jf_get hx hb hts in_X1 hown hV hP (ci := 1) (k := 1) jf_o0 rfl (by decide) (hts _ q455) rfl rfl dX1_count_184 ?_
    refine jf_getN hx hb hts in_X4 hown hV hP (ci := 3) (k := 0) (jf_oP (Or.inl rfl)) rfl (by decide) (jf_l_X1_81 hV.2.2.1) rfl rfl dX1_count_187 ?_
    refine lv_iload_n hx hb dX1_count_190 rfl (lv_at hl 2 rfl) ?_
    obtain ⟨j2, ej2, bj2, h⟩ := jx_ga_some h
    obtain ⟨r3, er3, h⟩ := jx_bi_some h
    refine jf_qald hx hb hV hP (jf_aP0 (Or.inl rfl)) ej2 bj2 er3 dX1_count_191 (fun r3a r3h => ?_)
    refine jf_entry hx hb hts hown hV hP r3h (jf_l_X1_138 hV.2.2.1) dX1_count_192 ?_
    refine lv_iconst hx hb dX1_count_195 jx_kim1 ?_
    refine lv_icmp_ne (tgt := 203) hx hb dX1_count_196 rfl (fun c4 => ?_) (fun c4 => ?_)
    · rw [if_neg c4] at h
      refine lv_iconst hx hb dX1_count_203 jx_ki1 ?_
      exact jf_count_b204_ok hX F hr171 _ _ _ _ h _ _ _ hP hS (lv_sub hl [0, 2] rfl)
    · rw [if_pos c4] at h
      refine lv_iconst hx hb dX1_count_199 jx_ki0 ?_
      refine lv_goto (tgt := 204) hx hb dX1_count_200 rfl ?_
      exact jf_count_b204_ok hX F hr171 _ _ _ _ h _ _ _ hP hS (lv_sub hl [0, 2] rfl)
theorem jf_count_h171_ok {out : Int32 × jf_S} (hX : jf_Ok RX1 p R s m args meth c A D E cX1_count 5 (some .int) 9) (F : Nat) (n : Nat) (a : Int32 × Int32 × jf_S) (h : jf_count_h171 F n a = some out) : jf_J p l e R s m args below meth c A D E fo pl 5 (jf_Qi below args s A D E fo pl out) 171 [(0, .ref (E.1 0)), (2, .int a.1), (3, .int a.2.1)] [] a.2.2 :=
  jx_loop_ind (J := fun a => jf_J p l e R s m args below meth c A D E fo pl 5 (jf_Qi below args s A D E fo pl out) 171 [(0, .ref (E.1 0)), (2, .int a.1), (3, .int a.2.1)] [] a.2.2) (fun r hr a h => jf_count_L171_ok hX F hr a.1 a.2.1 a.2.2 h) n a h
theorem jf_count_b273_ok {out : Int32 × jf_S} (hX : jf_Ok RX1 p R s m args meth c A D E cX1_count 5 (some .int) 9) (F : Nat) {r227 : Int32 × Int32 × Int32 × jf_S → Option (Int32 × jf_S)} (hr227 : ∀ a, r227 a = some out → jf_J p l e R s m args below meth c A D E fo pl 5 (jf_Qi below args s A D E fo pl out) 227 [(0, .ref (E.1 0)), (1, .int a.1), (2, .int a.2.1), (3, .int a.2.2.1)] [] a.2.2.2) {r241 : Int32 × Int32 × Int32 × Int32 × jf_S → Option (Int32 × jf_S)} (hr241 : ∀ a, r241 a = some out → jf_J p l e R s m args below meth c A D E fo pl 5 (jf_Qi below args s A D E fo pl out) 241 [(0, .ref (E.1 0)), (1, .int a.1), (2, .int a.2.1), (3, .int a.2.2.1), (4, .int a.2.2.2.1)] [] a.2.2.2.2) (x1 : Int32) (x3 : Int32) (x4 : Int32) (k0 : Int32) (k1 : Int32) (S : jf_S) (h : jf_count_b273 F r227 r241 x1 x3 x4 k0 k1 S = some out) : jf_J p l e R s m args below meth c A D E fo pl 5 (jf_Qi below args s A D E fo pl out) 273 [(0, .ref (E.1 0)), (1, .int x1), (3, .int x3), (4, .int x4)] [.int k0, .int k1] S := by
  intro H locs ls hP hS hl
  have hX0 := hX
  obtain ⟨hx, hb, hml, hown, hts, hlk, hr, hlv, hV, het⟩ := hX0
  unfold jf_count_b273 at h
  refine lv_iadd hx hb dX1_count_273 ?_
  obtain ⟨y1, ey1, h⟩ := jx_nx_some h
  refine jx_topi ey1 ?_
  refine lv_istore_n (lv' := [(2, .int y1), (0, .ref (E.1 0)), (1, .int x1), (3, .int x3), (4, .int x4)]) hx hb dX1_count_274 rfl hl (Nat.le_of_ble_eq_true rfl) rfl (fun ls hl => ?_)
  obtain ⟨y2, ey2, h⟩ := jx_nx_some h
  refine lv_iinc (v := y2) (lv' := [(4, .int y2), (2, .int y1), (0, .ref (E.1 0)), (1, .int x1), (3, .int x3)]) hx hb dX1_count_275 hl (k := 4) rfl (jx_inc jx_ki1 ey2) (Nat.le_of_ble_eq_true rfl) rfl (fun ls hl => ?_)
  refine lv_goto (tgt := 241) hx hb dX1_count_278 rfl ?_
  exact hr241 _ h _ _ _ hP hS (lv_sub hl [2, 3, 1, 4, 0] rfl)
theorem jf_count_L241_ok {out : Int32 × jf_S} (hX : jf_Ok RX1 p R s m args meth c A D E cX1_count 5 (some .int) 9) (F : Nat) {r227 : Int32 × Int32 × Int32 × jf_S → Option (Int32 × jf_S)} (hr227 : ∀ a, r227 a = some out → jf_J p l e R s m args below meth c A D E fo pl 5 (jf_Qi below args s A D E fo pl out) 227 [(0, .ref (E.1 0)), (1, .int a.1), (2, .int a.2.1), (3, .int a.2.2.1)] [] a.2.2.2) {r241 : Int32 × Int32 × Int32 × Int32 × jf_S → Option (Int32 × jf_S)} (hr241 : ∀ a, r241 a = some out → jf_J p l e R s m args below meth c A D E fo pl 5 (jf_Qi below args s A D E fo pl out) 241 [(0, .ref (E.1 0)), (1, .int a.1), (2, .int a.2.1), (3, .int a.2.2.1), (4, .int a.2.2.2.1)] [] a.2.2.2.2) (x1 : Int32) (x2 : Int32) (x3 : Int32) (x4 : Int32) (S : jf_S) (h : jf_count_L241 F r227 r241 x1 x2 x3 x4 S = some out) : jf_J p l e R s m args below meth c A D E fo pl 5 (jf_Qi below args s A D E fo pl out) 241 [(0, .ref (E.1 0)), (1, .int x1), (2, .int x2), (3, .int x3), (4, .int x4)] [] S := by
  intro H locs ls hP hS hl
  have hX0 := hX
  obtain ⟨hx, hb, hml, hown, hts, hlk, hr, hlv, hV, het⟩ := hX0
  unfold jf_count_L241 at h
  refine lv_iload hx hb dX1_count_241 (lv_at hl 4 rfl) ?_
  refine lv_aload_n hx hb dX1_count_243 rfl (lv_at hl 0 rfl) ?_
  refine jf_get hx hb hts in_X1 hown hV hP (ci := 1) (k := 1) jf_o0 rfl (by decide) (hts _ q455) rfl rfl dX1_count_244 ?_
  refine jf_getN hx hb hts in_X4 hown hV hP (ci := 3) (k := 15) (jf_oP (Or.inl rfl)) rfl (by decide) (jf_l_X1_101 hV.2.2.1) rfl rfl dX1_count_247 ?_
  refine lv_icmp_ge (tgt := 281) hx hb dX1_count_250 rfl (fun c1 => ?_) (fun c1 => ?_)
  · rw [if_pos c1] at h
    obtain ⟨y2, ey2, h⟩ := jx_nx_some h
    refine lv_iinc (v := y2) (lv' := [(3, .int y2), (0, .ref (E.1 0)), (1, .int x1), (2, .int x2), (4, .int x4)]) hx hb dX1_count_281 hl (k := 3) rfl (jx_inc jx_ki1 ey2) (Nat.le_of_ble_eq_true rfl) rfl (fun ls hl => ?_)
    refine lv_goto (tgt := 227) hx hb dX1_count_284 rfl ?_
    exact hr227 _ h _ _ _ hP hS (lv_sub hl [1, 2, 3, 0] rfl)
  · rw [if_neg c1] at h
    refine lv_iload_n hx hb dX1_count_253 rfl (lv_at hl 2 rfl) ?_
    refine lv_aload_n hx hb dX1_count_254 rfl (lv_at hl 0 rfl) ?_
    refine lv_iload_n hx hb dX1_count_255 rfl (lv_at hl 3 rfl) ?_
    refine lv_iload hx hb dX1_count_256 (lv_at hl 4 rfl) ?_
    obtain ⟨q3, eq3, h⟩ := jx_bi_some h
    refine jf_callI hx hb hml hown hts hlv hV (jf_reaches_met eq3) jf_reaches_g_X1 jf_reaches_d (As := [.int x3, .int x4]) (Nat.le_of_ble_eq_true rfl) (Nat.le_of_ble_eq_true rfl) hP hS (ci := 1) jf_o0 rfl hl.1 rfl rfl (lv_room (Nat.le_of_ble_eq_true rfl)) dX1_count_258 (fun H locs hP hS => ?_)
    refine lv_iload_n hx hb dX1_count_261 rfl (lv_at hl 1 rfl) ?_
    refine lv_bipush hx hb dX1_count_262 jx_kb8 ?_
    refine lv_isub hx hb dX1_count_264 ?_
    refine lv_icmp_ne (tgt := 272) hx hb dX1_count_265 rfl (fun c4 => ?_) (fun c4 => ?_)
    · rw [if_neg c4] at h
      refine lv_iconst hx hb dX1_count_272 jx_ki0 ?_
      exact jf_count_b273_ok hX F hr227 hr241 _ _ _ _ _ _ h _ _ _ hP hS (lv_sub hl [0, 1, 3, 4] rfl)
    · rw [if_pos c4] at h
      refine lv_iconst hx hb dX1_count_268 jx_ki1 ?_
      refine lv_goto (tgt := 273) hx hb dX1_count_269 rfl ?_
      exact jf_count_b273_ok hX F hr227 hr241 _ _ _ _ _ _ h _ _ _ hP hS (lv_sub hl [0, 1, 3, 4] rfl)
theorem jf_count_h241_ok {out : Int32 × jf_S} (hX : jf_Ok RX1 p R s m args meth c A D E cX1_count 5 (some .int) 9) (F : Nat) {r227 : Int32 × Int32 × Int32 × jf_S → Option (Int32 × jf_S)} (hr227 : ∀ a, r227 a = some out → jf_J p l e R s m args below meth c A D E fo pl 5 (jf_Qi below args s A D E fo pl out) 227 [(0, .ref (E.1 0)), (1, .int a.1), (2, .int a.2.1), (3, .int a.2.2.1)] [] a.2.2.2) (n : Nat) (a : Int32 × Int32 × Int32 × Int32 × jf_S) (h : jf_count_h241 F r227 n a = some out) : jf_J p l e R s m args below meth c A D E fo pl 5 (jf_Qi below args s A D E fo pl out) 241 [(0, .ref (E.1 0)), (1, .int a.1), (2, .int a.2.1), (3, .int a.2.2.1), (4, .int a.2.2.2.1)] [] a.2.2.2.2 :=
  jx_loop_ind (J := fun a => jf_J p l e R s m args below meth c A D E fo pl 5 (jf_Qi below args s A D E fo pl out) 241 [(0, .ref (E.1 0)), (1, .int a.1), (2, .int a.2.1), (3, .int a.2.2.1), (4, .int a.2.2.2.1)] [] a.2.2.2.2) (fun r hr a h => jf_count_L241_ok hX F hr227 hr a.1 a.2.1 a.2.2.1 a.2.2.2.1 a.2.2.2.2 h) n a h
theorem jf_count_L227_ok {out : Int32 × jf_S} (hX : jf_Ok RX1 p R s m args meth c A D E cX1_count 5 (some .int) 9) (F : Nat) {r227 : Int32 × Int32 × Int32 × jf_S → Option (Int32 × jf_S)} (hr227 : ∀ a, r227 a = some out → jf_J p l e R s m args below meth c A D E fo pl 5 (jf_Qi below args s A D E fo pl out) 227 [(0, .ref (E.1 0)), (1, .int a.1), (2, .int a.2.1), (3, .int a.2.2.1)] [] a.2.2.2) (x1 : Int32) (x2 : Int32) (x3 : Int32) (S : jf_S) (h : jf_count_L227 F r227 x1 x2 x3 S = some out) : jf_J p l e R s m args below meth c A D E fo pl 5 (jf_Qi below args s A D E fo pl out) 227 [(0, .ref (E.1 0)), (1, .int x1), (2, .int x2), (3, .int x3)] [] S := by
  intro H locs ls hP hS hl
  have hX0 := hX
  obtain ⟨hx, hb, hml, hown, hts, hlk, hr, hlv, hV, het⟩ := hX0
  unfold jf_count_L227 at h
  refine lv_iload_n hx hb dX1_count_227 rfl (lv_at hl 3 rfl) ?_
  refine lv_aload_n hx hb dX1_count_228 rfl (lv_at hl 0 rfl) ?_
  refine jf_get hx hb hts in_X1 hown hV hP (ci := 1) (k := 1) jf_o0 rfl (by decide) (hts _ q455) rfl rfl dX1_count_229 ?_
  refine jf_getN hx hb hts in_X4 hown hV hP (ci := 3) (k := 14) (jf_oP (Or.inl rfl)) rfl (by decide) (jf_l_X1_98 hV.2.2.1) rfl rfl dX1_count_232 ?_
  refine lv_icmp_ge (tgt := 287) hx hb dX1_count_235 rfl (fun c1 => ?_) (fun c1 => ?_)
  · rw [if_pos c1] at h
    refine lv_iload_n hx hb dX1_count_287 rfl (lv_at hl 2 rfl) ?_
    exact jf_iret hx hb hr hlk hV hP hS h dX1_count_288
  · rw [if_neg c1] at h
    refine lv_iconst hx hb dX1_count_238 jx_ki0 ?_
    obtain ⟨y2, ey2, h⟩ := jx_nx_some h
    refine jx_topi ey2 ?_
    refine lv_istore (lv' := [(4, .int y2), (0, .ref (E.1 0)), (1, .int x1), (2, .int x2), (3, .int x3)]) hx hb dX1_count_239 hl (Nat.le_of_ble_eq_true rfl) rfl (fun ls hl => ?_)
    exact jf_count_h241_ok hX F hr227 F _ h _ _ _ hP hS (lv_sub hl [1, 2, 3, 4, 0] rfl)
theorem jf_count_h227_ok {out : Int32 × jf_S} (hX : jf_Ok RX1 p R s m args meth c A D E cX1_count 5 (some .int) 9) (F : Nat) (n : Nat) (a : Int32 × Int32 × Int32 × jf_S) (h : jf_count_h227 F n a = some out) : jf_J p l e R s m args below meth c A D E fo pl 5 (jf_Qi below args s A D E fo pl out) 227 [(0, .ref (E.1 0)), (1, .int a.1), (2, .int a.2.1), (3, .int a.2.2.1)] [] a.2.2.2 :=
  jx_loop_ind (J := fun a => jf_J p l e R s m args below meth c A D E fo pl 5 (jf_Qi below args s A D E fo pl out) 227 [(0, .ref (E.1 0)), (1, .int a.1), (2, .int a.2.1), (3, .int a.2.2.1)] [] a.2.2.2) (fun r hr a h => jf_count_L227_ok hX F hr a.1 a.2.1 a.2.2.1 a.2.2.2 h) n a h
theorem jf_count_b225_ok {out : Int32 × jf_S} (hX : jf_Ok RX1 p R s m args meth c A D E cX1_count 5 (some .int) 9) (F : Nat) (x1 : Int32) (x2 : Int32) (S : jf_S) (h : jf_count_b225 F x1 x2 S = some out) : jf_J p l e R s m args below meth c A D E fo pl 5 (jf_Qi below args s A D E fo pl out) 225 [(0, .ref (E.1 0)), (1, .int x1), (2, .int x2)] [] S := by
  intro H locs ls hP hS hl
  have hX0 := hX
  obtain ⟨hx, hb, hml, hown, hts, hlk, hr, hlv, hV, het⟩ := hX0
  unfold jf_count_b225 at h
  refine lv_iconst hx hb dX1_count_225 jx_ki0 ?_
  obtain ⟨y1, ey1, h⟩ := jx_nx_some h
  refine jx_topi ey1 ?_
  refine lv_istore_n (lv' := [(3, .int y1), (0, .ref (E.1 0)), (1, .int x1), (2, .int x2)]) hx hb dX1_count_226 rfl hl (Nat.le_of_ble_eq_true rfl) rfl (fun ls hl => ?_)
  exact jf_count_h227_ok hX F F _ h _ _ _ hP hS (lv_sub hl [1, 2, 3, 0] rfl)
theorem jf_count_ok {out : Int32 × jf_S} (hX : jf_Ok RX1 p R s m args meth c A D E cX1_count 5 (some .int) 9) (F : Nat) (x1 : Int32) (S : jf_S) (h : jf_count F x1 S = some out) : jf_J p l e R s m args below meth c A D E fo pl 5 (jf_Qi below args s A D E fo pl out) 0 [(0, .ref (E.1 0)), (1, .int x1)] [] S := by
  intro H locs ls hP hS hl
  have hX0 := hX
  obtain ⟨hx, hb, hml, hown, hts, hlk, hr, hlv, hV, het⟩ := hX0
  unfold jf_count at h
  refine lv_iconst hx hb dX1_count_0 jx_ki0 ?_
  obtain ⟨y1, ey1, h⟩ := jx_nx_some h
  refine jx_topi ey1 ?_
  refine lv_istore_n (lv' := [(2, .int y1), (0, .ref (E.1 0)), (1, .int x1)]) hx hb dX1_count_1 rfl hl (Nat.le_of_ble_eq_true rfl) rfl (fun ls hl => ?_)
  refine lv_iload_n hx hb dX1_count_2 rfl (lv_at hl 2 rfl) ?_
  by_cases sw3_0 : x1 = nI 0
  · rw [if_pos sw3_0] at h
    refine lv_tableIn (tgt := 56) (off := 53) hx hb dX1_count_3 (by rw [sw3_0]; decide) (by rw [sw3_0]; decide) (by rw [sw3_0]; decide) rfl ?_
    refine lv_aload_n hx hb dX1_count_56 rfl (lv_at hl 1 rfl) ?_
    refine jf_get hx hb hts in_X1 hown hV hP (ci := 1) (k := 1) jf_o0 rfl (by decide) (hts _ q455) rfl rfl dX1_count_57 ?_
    refine jf_getN hx hb hts in_X4 hown hV hP (ci := 3) (k := 13) (jf_oP (Or.inl rfl)) rfl (by decide) (jf_l_X1_70 hV.2.2.1) rfl rfl dX1_count_60 ?_
    exact jf_iret hx hb hr hlk hV hP hS h dX1_count_63
  · rw [if_neg sw3_0] at h
    by_cases sw3_1 : x1 = nI 1
    · rw [if_pos sw3_1] at h
      refine lv_tableIn (tgt := 64) (off := 61) hx hb dX1_count_3 (by rw [sw3_1]; decide) (by rw [sw3_1]; decide) (by rw [sw3_1]; decide) rfl ?_
      refine lv_iconst hx hb dX1_count_64 jx_ki0 ?_
      obtain ⟨y2, ey2, h⟩ := jx_nx_some h
      refine jx_topi ey2 ?_
      refine lv_istore_n (lv' := [(3, .int y2), (2, .int y1), (0, .ref (E.1 0)), (1, .int x1)]) hx hb dX1_count_65 rfl hl (Nat.le_of_ble_eq_true rfl) rfl (fun ls hl => ?_)
      exact jf_count_h66_ok hX F F _ h _ _ _ hP hS (lv_sub hl [2, 1, 0] rfl)
    · rw [if_neg sw3_1] at h
      by_cases sw3_2 : x1 = nI 2
      · rw [if_pos sw3_2] at h
        refine lv_tableIn (tgt := 108) (off := 105) hx hb dX1_count_3 (by rw [sw3_2]; decide) (by rw [sw3_2]; decide) (by rw [sw3_2]; decide) rfl ?_
        refine lv_iconst hx hb dX1_count_108 jx_ki0 ?_
        obtain ⟨y3, ey3, h⟩ := jx_nx_some h
        refine jx_topi ey3 ?_
        refine lv_istore_n (lv' := [(3, .int y3), (2, .int y1), (0, .ref (E.1 0)), (1, .int x1)]) hx hb dX1_count_109 rfl hl (Nat.le_of_ble_eq_true rfl) rfl (fun ls hl => ?_)
        exact jf_count_h110_ok hX F F _ h _ _ _ hP hS (lv_sub hl [2, 1, 0] rfl)
      · rw [if_neg sw3_2] at h
        by_cases sw3_3 : x1 = nI 3
        · rw [if_pos sw3_3] at h
          refine lv_tableIn (tgt := 145) (off := 142) hx hb dX1_count_3 (by rw [sw3_3]; decide) (by rw [sw3_3]; decide) (by rw [sw3_3]; decide) rfl ?_
          refine lv_aload_n hx hb dX1_count_145 rfl (lv_at hl 1 rfl) ?_
          refine jf_get hx hb hts in_X1 hown hV hP (ci := 1) (k := 1) jf_o0 rfl (by decide) (hts _ q455) rfl rfl dX1_count_146 ?_
          refine jf_getN hx hb hts in_X4 hown hV hP (ci := 3) (k := 16) (jf_oP (Or.inl rfl)) rfl (by decide) (jf_l_X1_174 hV.2.2.1) rfl rfl dX1_count_149 ?_
          exact jf_iret hx hb hr hlk hV hP hS h dX1_count_152
        · rw [if_neg sw3_3] at h
          by_cases sw3_4 : x1 = nI 4
          · rw [if_pos sw3_4] at h
            refine lv_tableIn (tgt := 153) (off := 150) hx hb dX1_count_3 (by rw [sw3_4]; decide) (by rw [sw3_4]; decide) (by rw [sw3_4]; decide) rfl ?_
            refine lv_aload_n hx hb dX1_count_153 rfl (lv_at hl 1 rfl) ?_
            refine jf_get hx hb hts in_X1 hown hV hP (ci := 1) (k := 1) jf_o0 rfl (by decide) (hts _ q455) rfl rfl dX1_count_154 ?_
            refine jf_getN hx hb hts in_X4 hown hV hP (ci := 3) (k := 14) (jf_oP (Or.inl rfl)) rfl (by decide) (jf_l_X1_98 hV.2.2.1) rfl rfl dX1_count_157 ?_
            exact jf_iret hx hb hr hlk hV hP hS h dX1_count_160
          · rw [if_neg sw3_4] at h
            by_cases sw3_5 : x1 = nI 5
            · rw [if_pos sw3_5] at h
              refine lv_tableIn (tgt := 161) (off := 158) hx hb dX1_count_3 (by rw [sw3_5]; decide) (by rw [sw3_5]; decide) (by rw [sw3_5]; decide) rfl ?_
              refine lv_aload_n hx hb dX1_count_161 rfl (lv_at hl 1 rfl) ?_
              refine jf_get hx hb hts in_X1 hown hV hP (ci := 1) (k := 1) jf_o0 rfl (by decide) (hts _ q455) rfl rfl dX1_count_162 ?_
              refine jf_getN hx hb hts in_X4 hown hV hP (ci := 3) (k := 15) (jf_oP (Or.inl rfl)) rfl (by decide) (jf_l_X1_101 hV.2.2.1) rfl rfl dX1_count_165 ?_
              exact jf_iret hx hb hr hlk hV hP hS h dX1_count_168
            · rw [if_neg sw3_5] at h
              by_cases sw3_6 : x1 = nI 6
              · rw [if_pos sw3_6] at h
                refine lv_tableIn (tgt := 169) (off := 166) hx hb dX1_count_3 (by rw [sw3_6]; decide) (by rw [sw3_6]; decide) (by rw [sw3_6]; decide) rfl ?_
                refine lv_iconst hx hb dX1_count_169 jx_ki0 ?_
                obtain ⟨y4, ey4, h⟩ := jx_nx_some h
                refine jx_topi ey4 ?_
                refine lv_istore_n (lv' := [(3, .int y4), (2, .int y1), (0, .ref (E.1 0)), (1, .int x1)]) hx hb dX1_count_170 rfl hl (Nat.le_of_ble_eq_true rfl) rfl (fun ls hl => ?_)
                exact jf_count_h171_ok hX F F _ h _ _ _ hP hS (lv_sub hl [2, 1, 0] rfl)
              · rw [if_neg sw3_6] at h
                by_cases sw3_7 : x1 = nI 7
                · rw [if_pos sw3_7] at h
                  refine lv_tableIn (tgt := 214) (off := 211) hx hb dX1_count_3 (by rw [sw3_7]; decide) (by rw [sw3_7]; decide) (by rw [sw3_7]; decide) rfl ?_
                  refine lv_aload_n hx hb dX1_count_214 rfl (lv_at hl 1 rfl) ?_
                  refine jf_get hx hb hts in_X1 hown hV hP (ci := 1) (k := 1) jf_o0 rfl (by decide) (hts _ q455) rfl rfl dX1_count_215 ?_
                  refine jf_getN hx hb hts in_X4 hown hV hP (ci := 3) (k := 17) (jf_oP (Or.inl rfl)) rfl (by decide) (jf_l_X1_171 hV.2.2.1) rfl rfl dX1_count_218 ?_
                  obtain ⟨q5, eq5, h⟩ := jx_bi_some h
                  refine jx_callSi hx hb hml hown hts (jx_ibits_met eq5) jx_ibits_g_X1 jx_ibits_d (As := [.int (S.1 3 17)]) (⟨Nat.le_trans (Nat.le_of_ble_eq_true rfl) hlv.1, Nat.le_trans (Nat.le_of_ble_eq_true rfl) hlv.2⟩) hl.1 rfl rfl (lv_room (Nat.le_of_ble_eq_true rfl)) dX1_count_221 ⟨Nat.zero_le _, Nat.zero_le _⟩ ?_
                  exact jf_iret hx hb hr hlk hV hP hS h dX1_count_224
                · rw [if_neg sw3_7] at h
                  by_cases sw3_8 : x1 = nI 8
                  · rw [if_pos sw3_8] at h
                    refine lv_tableIn (tgt := 225) (off := 222) hx hb dX1_count_3 (by rw [sw3_8]; decide) (by rw [sw3_8]; decide) (by rw [sw3_8]; decide) rfl ?_
                    exact jf_count_b225_ok hX F _ _ _ h _ _ _ hP hS (lv_sub hl [1, 2, 0] rfl)
                  · rw [if_neg sw3_8] at h
                    by_cases sw3_9 : x1 = nI 9
                    · rw [if_pos sw3_9] at h
                      refine lv_tableIn (tgt := 225) (off := 222) hx hb dX1_count_3 (by rw [sw3_9]; decide) (by rw [sw3_9]; decide) (by rw [sw3_9]; decide) rfl ?_
                      exact jf_count_b225_ok hX F _ _ _ h _ _ _ hP hS (lv_sub hl [1, 2, 0] rfl)
                    · rw [if_neg sw3_9] at h
                      refine lv_tableOut (tgt := 289) hx hb dX1_count_3 (jx_sw10 sw3_0 sw3_1 sw3_2 sw3_3 sw3_4 sw3_5 sw3_6 sw3_7 sw3_8 sw3_9) rfl ?_
                      refine lv_iconst hx hb dX1_count_289 jx_kim1 ?_
                      exact jf_iret hx hb hr hlk hV hP hS h dX1_count_290
theorem jf_count_met {l : Launch} {D : va_G} {E : jf_E} {A : Nat → Prop} {fo : Nat → Nat → Option Nat} {pl : va_W} {F : Nat} {x1 : Int32} {S : jf_S} {out : Int32 × jf_S} (h : jf_count F x1 S = some out) : jf_Mi l D E A fo pl yX1_count cX1_count 5 (some .int) 9 [.ref (E.1 0), .int x1] S out :=
  jf_Mi_of (own := RX1) ⟨by decide, rfl, Nat.le_of_ble_eq_true rfl⟩ (fun hX => jf_count_ok hX F x1 S h)
theorem jf_chooses_g_X1 : GoodIn lw_all (wsV RX1 347 RX1 yX1_chooses (ws_ yX1_chooses cX1_chooses 8 none)) := lw_V q1484 q1486 qs31 q102 q1487
theorem jf_chooses_d : yX1_chooses.cls = RX1 ∧ yX1_chooses.cls ≠ "java/lang/invoke/MethodHandle" ∧ yX1_chooses.cls ≠ "java/lang/invoke/VarHandle" ∧ (parseMethodDescriptor yX1_chooses.desc).map (fun d => d.parameters.length) = some 4 := by decide +kernel
theorem jf_chooses_L104_ok {out : jf_S} (hX : jf_Ok RX1 p R s m args meth c A D E cX1_chooses 8 none lv) (F : Nat) (rc : Int32 × Int32 × Int64 × Int32 × jf_S → Option (jf_S)) {lv0 : Nat} (hlr : lv0 + 1 ≤ lv) (hl0 : 5 ≤ lv) (hrc : ∀ a q, rc a = some q → jf_Mv l D E A fo pl yX1_chooses cX1_chooses 8 none lv0 [.ref (E.1 0), .int a.1, .int a.2.1, .long a.2.2.1, .int a.2.2.2.1] a.2.2.2.2 q) {r104 : Int32 × Int32 × Int64 × Int32 × Int32 × Int32 × jf_S → Option (jf_S)} (hr104 : ∀ a, r104 a = some out → jf_J p l e R s m args below meth c A D E fo pl 8 (jf_Qv below args s A D E fo pl out) 104 [(0, .ref (E.1 0)), (1, .int a.1), (2, .int a.2.1), (3, .long a.2.2.1), (5, .int a.2.2.2.1), (6, .int a.2.2.2.2.1), (7, .int a.2.2.2.2.2.1)] [] a.2.2.2.2.2.2) (x1 : Int32) (x2 : Int32) (x3 : Int64) (x5 : Int32) (x6 : Int32) (x7 : Int32) (S : jf_S) (h : jf_chooses_L104 F rc r104 x1 x2 x3 x5 x6 x7 S = some out) : jf_J p l e R s m args below meth c A D E fo pl 8 (jf_Qv below args s A D E fo pl out) 104 [(0, .ref (E.1 0)), (1, .int x1), (2, .int x2), (3, .long x3), (5, .int x5), (6, .int x6), (7, .int x7)] [] S := by
  intro H locs ls hP hS hl
  have hX0 := hX
  obtain ⟨hx, hb, hml, hown, hts, hlk, hr, hlv, hV, het⟩ := hX0
  unfold jf_chooses_L104 at h
  refine lv_iload hx hb dX1_chooses_104 (lv_at hl 6 rfl) ?_
  refine lv_iload hx hb dX1_chooses_106 (lv_at hl 5 rfl) ?_
  refine lv_icmp_gt (tgt := 152) hx hb dX1_chooses_108 rfl (fun c1 => ?_) (fun c1 => ?_)
  · rw [if_pos c1] at h
    exact jf_vret hx hb hr hlk hV hP hS h dX1_chooses_152
  · rw [if_neg c1] at h
    refine lv_aload_n hx hb dX1_chooses_111 rfl (lv_at hl 0 rfl) ?_
    refine jf_get hx hb hts in_X1 hown hV hP (ci := 1) (k := 6) jf_o0 rfl (by decide) (hts _ q460) rfl rfl dX1_chooses_112 ?_
    refine lv_aload_n hx hb dX1_chooses_115 rfl (lv_at hl 0 rfl) ?_
    refine jf_get hx hb hts in_X1 hown hV hP (ci := 1) (k := 8) jf_o0 rfl (by decide) (hts _ q462) rfl rfl dX1_chooses_116 ?_
    refine lv_iload_n hx hb dX1_chooses_119 rfl (lv_at hl 1 rfl) ?_
    obtain ⟨j2, ej2, bj2, h⟩ := jx_ga_some h
    refine jf_iald hx hb hV hP jf_a0_8 ej2 bj2 dX1_chooses_120 ?_
    refine lv_iload hx hb dX1_chooses_121 (lv_at hl 6 rfl) ?_
    obtain ⟨j3, ej3, bj3, h⟩ := jx_ga_some h
    obtain ⟨S4, eS4, h⟩ := jx_nx_some h
    refine jf_iast hx hb hV hP hS jf_a0_6 ej3 bj3 eS4 dX1_chooses_123 (fun H locs hP hS => ?_)
    refine lv_aload_n hx hb dX1_chooses_124 rfl (lv_at hl 0 rfl) ?_
    refine lv_iload_n hx hb dX1_chooses_125 rfl (lv_at hl 1 rfl) ?_
    refine lv_iconst hx hb dX1_chooses_126 jx_ki1 ?_
    refine lv_iadd hx hb dX1_chooses_127 ?_
    refine lv_iload_n hx hb dX1_chooses_128 rfl (lv_at hl 2 rfl) ?_
    refine lv_lload_n hx hb dX1_chooses_129 rfl (lv_at hl 3 rfl) ?_
    refine lv_iload hx hb dX1_chooses_130 (lv_at hl 4 rfl) ?_
    refine lv_aload_n hx hb dX1_chooses_132 rfl (lv_at hl 0 rfl) ?_
    refine jf_get hx hb hts in_X1 hown hV hP (ci := 1) (k := 1) jf_o0 rfl (by decide) (hts _ q455) rfl rfl dX1_chooses_133 ?_
    refine jf_getN hx hb hts in_X4 hown hV hP (ci := 3) (k := 2) (jf_oP (Or.inl rfl)) rfl (by decide) (jf_l_X1_151 hV.2.2.1) rfl rfl dX1_chooses_136 ?_
    refine lv_iload hx hb dX1_chooses_139 (lv_at hl 6 rfl) ?_
    obtain ⟨j5, ej5, bj5, h⟩ := jx_ga_some h
    refine jf_iald hx hb hV hP (jf_aP2 (Or.inl rfl)) ej5 bj5 dX1_chooses_141 ?_
    refine lv_iadd hx hb dX1_chooses_142 ?_
    obtain ⟨q6, eq6, h⟩ := jx_bi_some h
    refine jf_callV hx hb hml hown hts hlv hV (hrc _ _ eq6) jf_chooses_g_X1 jf_chooses_d (As := [.int (x1 + (nI 1)), .int x2, .long x3, .int (x5 + (S4.2.2.1 3 2 j5))]) hlr (Nat.le_of_ble_eq_true rfl) hP hS (ci := 1) jf_o0 rfl hl.1 rfl rfl (lv_room (Nat.le_of_ble_eq_true rfl)) dX1_chooses_143 (fun H locs hP hS => ?_)
    obtain ⟨y7, ey7, h⟩ := jx_nx_some h
    refine lv_iinc (v := y7) (lv' := [(7, .int y7), (0, .ref (E.1 0)), (1, .int x1), (2, .int x2), (3, .long x3), (5, .int x5), (6, .int x6)]) hx hb dX1_chooses_146 hl (k := 6) rfl (jx_inc jx_ki1 ey7) (Nat.le_of_ble_eq_true rfl) rfl (fun ls hl => ?_)
    refine lv_goto (tgt := 104) hx hb dX1_chooses_149 rfl ?_
    exact hr104 _ h _ _ _ hP hS (lv_sub hl [1, 2, 3, 4, 5, 6, 0] rfl)
theorem jf_chooses_h104_ok {out : jf_S} (hX : jf_Ok RX1 p R s m args meth c A D E cX1_chooses 8 none lv) (F : Nat) (rc : Int32 × Int32 × Int64 × Int32 × jf_S → Option (jf_S)) {lv0 : Nat} (hlr : lv0 + 1 ≤ lv) (hl0 : 5 ≤ lv) (hrc : ∀ a q, rc a = some q → jf_Mv l D E A fo pl yX1_chooses cX1_chooses 8 none lv0 [.ref (E.1 0), .int a.1, .int a.2.1, .long a.2.2.1, .int a.2.2.2.1] a.2.2.2.2 q) (n : Nat) (a : Int32 × Int32 × Int64 × Int32 × Int32 × Int32 × jf_S) (h : jf_chooses_h104 F rc n a = some out) : jf_J p l e R s m args below meth c A D E fo pl 8 (jf_Qv below args s A D E fo pl out) 104 [(0, .ref (E.1 0)), (1, .int a.1), (2, .int a.2.1), (3, .long a.2.2.1), (5, .int a.2.2.2.1), (6, .int a.2.2.2.2.1), (7, .int a.2.2.2.2.2.1)] [] a.2.2.2.2.2.2 :=
  jx_loop_ind (J := fun a => jf_J p l e R s m args below meth c A D E fo pl 8 (jf_Qv below args s A D E fo pl out) 104 [(0, .ref (E.1 0)), (1, .int a.1), (2, .int a.2.1), (3, .long a.2.2.1), (5, .int a.2.2.2.1), (6, .int a.2.2.2.2.1), (7, .int a.2.2.2.2.2.1)] [] a.2.2.2.2.2.2) (fun r hr a h => jf_chooses_L104_ok hX F rc hlr hl0 hrc hr a.1 a.2.1 a.2.2.1 a.2.2.2.1 a.2.2.2.2.1 a.2.2.2.2.2.1 a.2.2.2.2.2.2 h) n a h
theorem jf_chooses_b99_ok {out : jf_S} (hX : jf_Ok RX1 p R s m args meth c A D E cX1_chooses 8 none lv) (F : Nat) (rc : Int32 × Int32 × Int64 × Int32 × jf_S → Option (jf_S)) {lv0 : Nat} (hlr : lv0 + 1 ≤ lv) (hl0 : 5 ≤ lv) (hrc : ∀ a q, rc a = some q → jf_Mv l D E A fo pl yX1_chooses cX1_chooses 8 none lv0 [.ref (E.1 0), .int a.1, .int a.2.1, .long a.2.2.1, .int a.2.2.2.1] a.2.2.2.2 q) (x1 : Int32) (x2 : Int32) (x3 : Int64) (x5 : Int32) (k0 : Int32) (S : jf_S) (h : jf_chooses_b99 F rc x1 x2 x3 x5 k0 S = some out) : jf_J p l e R s m args below meth c A D E fo pl 8 (jf_Qv below args s A D E fo pl out) 99 [(0, .ref (E.1 0)), (1, .int x1), (2, .int x2), (3, .long x3), (5, .int x5)] [.int k0] S := by
  intro H locs ls hP hS hl
  have hX0 := hX
  obtain ⟨hx, hb, hml, hown, hts, hlk, hr, hlv, hV, het⟩ := hX0
  unfold jf_chooses_b99 at h
  refine lv_istore (lv' := [(6, .int k0), (0, .ref (E.1 0)), (1, .int x1), (2, .int x2), (3, .long x3), (5, .int x5)]) hx hb dX1_chooses_99 hl (Nat.le_of_ble_eq_true rfl) rfl (fun ls hl => ?_)
  refine lv_iconst hx hb dX1_chooses_101 jx_ki0 ?_
  obtain ⟨y1, ey1, h⟩ := jx_nx_some h
  refine jx_topi ey1 ?_
  refine lv_istore (lv' := [(7, .int y1), (6, .int k0), (0, .ref (E.1 0)), (1, .int x1), (2, .int x2), (3, .long x3), (5, .int x5)]) hx hb dX1_chooses_102 hl (Nat.le_of_ble_eq_true rfl) rfl (fun ls hl => ?_)
  exact jf_chooses_h104_ok hX F rc hlr hl0 hrc F _ h _ _ _ hP hS (lv_sub hl [2, 3, 4, 5, 6, 1, 0] rfl)
theorem jf_chooses_b17_ok {out : jf_S} (hX : jf_Ok RX1 p R s m args meth c A D E cX1_chooses 8 none lv) (F : Nat) (rc : Int32 × Int32 × Int64 × Int32 × jf_S → Option (jf_S)) {lv0 : Nat} (hlr : lv0 + 1 ≤ lv) (hl0 : 5 ≤ lv) (hrc : ∀ a q, rc a = some q → jf_Mv l D E A fo pl yX1_chooses cX1_chooses 8 none lv0 [.ref (E.1 0), .int a.1, .int a.2.1, .long a.2.2.1, .int a.2.2.2.1] a.2.2.2.2 q) (x1 : Int32) (x2 : Int32) (x3 : Int64) (x5 : Int32) (S : jf_S) (h : jf_chooses_b17 F rc x1 x2 x3 x5 S = some out) : jf_J p l e R s m args below meth c A D E fo pl 8 (jf_Qv below args s A D E fo pl out) 17 [(0, .ref (E.1 0)), (1, .int x1), (2, .int x2), (3, .long x3), (5, .int x5)] [] S := by
  intro H locs ls hP hS hl
  have hX0 := hX
  obtain ⟨hx, hb, hml, hown, hts, hlk, hr, hlv, hV, het⟩ := hX0
  unfold jf_chooses_b17 at h
  refine lv_iload_n hx hb dX1_chooses_17 rfl (lv_at hl 1 rfl) ?_
  refine lv_aload_n hx hb dX1_chooses_18 rfl (lv_at hl 0 rfl) ?_
  refine jf_get hx hb hts in_X1 hown hV hP (ci := 1) (k := 11) jf_o0 rfl (by decide) (hts _ q465) rfl rfl dX1_chooses_19 ?_
  refine lv_icmp_ne (tgt := 72) hx hb dX1_chooses_22 rfl (fun c1 => ?_) (fun c1 => ?_)
  · rw [if_neg c1] at h
    refine lv_aload_n hx hb dX1_chooses_72 rfl (lv_at hl 0 rfl) ?_
    refine jf_get hx hb hts in_X1 hown hV hP (ci := 1) (k := 1) jf_o0 rfl (by decide) (hts _ q455) rfl rfl dX1_chooses_73 ?_
    refine jf_getN hx hb hts in_X4 hown hV hP (ci := 3) (k := 0) (jf_oP (Or.inl rfl)) rfl (by decide) (jf_l_X1_81 hV.2.2.1) rfl rfl dX1_chooses_76 ?_
    refine lv_aload_n hx hb dX1_chooses_79 rfl (lv_at hl 0 rfl) ?_
    refine jf_get hx hb hts in_X1 hown hV hP (ci := 1) (k := 8) jf_o0 rfl (by decide) (hts _ q462) rfl rfl dX1_chooses_80 ?_
    refine lv_iload_n hx hb dX1_chooses_83 rfl (lv_at hl 1 rfl) ?_
    obtain ⟨j2, ej2, bj2, h⟩ := jx_ga_some h
    refine jf_iald hx hb hV hP jf_a0_8 ej2 bj2 dX1_chooses_84 ?_
    obtain ⟨j3, ej3, bj3, h⟩ := jx_ga_some h
    obtain ⟨r4, er4, h⟩ := jx_bi_some h
    refine jf_qald hx hb hV hP (jf_aP0 (Or.inl rfl)) ej3 bj3 er4 dX1_chooses_85 (fun r4a r4h => ?_)
    obtain ⟨q5, eq5, h⟩ := jx_bi_some h
    refine jv_word_X1 hx hb hml hown hts hlv hV r4h eq5 (Nat.le_trans (Nat.le_of_ble_eq_true rfl) hl0) hP hS hl.1 rfl rfl (lv_room (Nat.le_of_ble_eq_true rfl)) dX1_chooses_86 (fun H locs hP hS => ?_)
    refine lv_bipush hx hb dX1_chooses_89 jx_kb7 ?_
    refine lv_icmp_ne (tgt := 98) hx hb dX1_chooses_91 rfl (fun c6 => ?_) (fun c6 => ?_)
    · rw [if_neg c6] at h
      refine lv_iconst hx hb dX1_chooses_98 jx_ki2 ?_
      exact jf_chooses_b99_ok hX F rc hlr hl0 hrc _ _ _ _ _ _ h _ _ _ hP hS hl
    · rw [if_pos c6] at h
      refine lv_iconst hx hb dX1_chooses_94 jx_ki3 ?_
      refine lv_goto (tgt := 99) hx hb dX1_chooses_95 rfl ?_
      exact jf_chooses_b99_ok hX F rc hlr hl0 hrc _ _ _ _ _ _ h _ _ _ hP hS hl
  · rw [if_pos c1] at h
    refine lv_aload_n hx hb dX1_chooses_25 rfl (lv_at hl 0 rfl) ?_
    refine jf_get hx hb hts in_X1 hown hV hP (ci := 1) (k := 1) jf_o0 rfl (by decide) (hts _ q455) rfl rfl dX1_chooses_26 ?_
    refine lv_aload_n hx hb dX1_chooses_29 rfl (lv_at hl 0 rfl) ?_
    refine jf_get hx hb hts in_X1 hown hV hP (ci := 1) (k := 6) jf_o0 rfl (by decide) (hts _ q460) rfl rfl dX1_chooses_30 ?_
    refine lv_iload_n hx hb dX1_chooses_33 rfl (lv_at hl 2 rfl) ?_
    obtain ⟨q7, eq7, h⟩ := jx_bi_some h
    refine jf_callL hx hb hml hown hts hlv hV (jp_closed_met (Or.inl rfl) (Or.inr ⟨rfl, rfl⟩) eq7) jp_closed_g_X1 jp_closed_d (As := [.ref (E.2.1 0 6), .int x2]) (Nat.le_trans (Nat.le_of_ble_eq_true rfl) hl0) (Nat.le_of_ble_eq_true rfl) hP hS (ci := 3) (jf_oP (Or.inl rfl)) rfl hl.1 rfl rfl (lv_room (Nat.le_of_ble_eq_true rfl)) dX1_chooses_34 (fun H locs hP hS => ?_)
    refine lv_lload_n hx hb dX1_chooses_37 rfl (lv_at hl 3 rfl) ?_
    refine lv_land hx hb dX1_chooses_38 ?_
    refine lv_lconst hx hb dX1_chooses_39 jx_kl0 ?_
    refine W.lcmp hx hb dX1_chooses_40 ?_
    refine lv_if_eq (tgt := 45) hx hb dX1_chooses_41 rfl (fun c8 => ?_) (fun c8 => ?_)
    · rw [if_pos c8] at h
      refine lv_aload_n hx hb dX1_chooses_45 rfl (lv_at hl 0 rfl) ?_
      refine lv_iconst hx hb dX1_chooses_46 jx_ki1 ?_
      obtain ⟨S9, eS9, h⟩ := jx_nx_some h
      refine jf_put (S1 := S9) hx hb hts in_X1 tyX1_ok nmX1 hown hV hP hS (ci := 1) (k := 14) (by rw [eS9]; rfl) jf_o0 (by rw [eS9]; exact jf_s0_14 _) rfl (by decide) (hts _ q468) rfl rfl (tyX1_ok 14 (by decide)) jx_nz1 (Nat.le_of_ble_eq_true rfl) dX1_chooses_47 (fun H locs hP hS => ?_)
      refine lv_aload_n hx hb dX1_chooses_50 rfl (lv_at hl 0 rfl) ?_
      refine lv_iload hx hb dX1_chooses_51 (lv_at hl 4 rfl) ?_
      obtain ⟨S10, eS10, h⟩ := jx_nx_some h
      refine jf_put (S1 := S10) hx hb hts in_X1 tyX1_ok nmX1 hown hV hP hS (ci := 1) (k := 13) (by rw [eS10]; rfl) jf_o0 (by rw [eS10]; exact jf_s0_13 _) rfl (by decide) (hts _ q467) rfl rfl (tyX1_ok 13 (by decide)) ⟨rfl, rfl⟩ (Nat.le_of_ble_eq_true rfl) dX1_chooses_53 (fun H locs hP hS => ?_)
      refine lv_aload_n hx hb dX1_chooses_56 rfl (lv_at hl 0 rfl) ?_
      refine jf_get hx hb hts in_X1 hown hV hP (ci := 1) (k := 6) jf_o0 rfl (by decide) (hts _ q460) rfl rfl dX1_chooses_57 ?_
      refine lv_iconst hx hb dX1_chooses_60 jx_ki0 ?_
      refine lv_aload_n hx hb dX1_chooses_61 rfl (lv_at hl 0 rfl) ?_
      refine jf_get hx hb hts in_X1 hown hV hP (ci := 1) (k := 7) jf_o0 rfl (by decide) (hts _ q461) rfl rfl dX1_chooses_62 ?_
      refine lv_iconst hx hb dX1_chooses_65 jx_ki0 ?_
      refine lv_bipush hx hb dX1_chooses_66 jx_kb40 ?_
      obtain ⟨S11, eS11, h⟩ := jx_nx_some h
      refine jf_copyi (n := 40) (nn := nI 40) hx hb (hml.trans hl.1.symm) hown (hts _ q1483) hts hV hP hS jf_a0_6 jf_a0_7 eS11 rfl (by decide) (by decide) (Nat.le_trans (Nat.le_trans (Nat.le_of_ble_eq_true rfl) hl0) hlv.1) (Nat.le_trans (Nat.le_trans (Nat.le_of_ble_eq_true rfl) (Nat.mul_le_mul_left 40 hl0)) hlv.2) dX1_chooses_68 (fun H locs hP hS => ?_)
      exact jf_vret hx hb hr hlk hV hP hS h dX1_chooses_71
    · rw [if_neg c8] at h
      exact jf_vret hx hb hr hlk hV hP hS h dX1_chooses_44
theorem jf_chooses_B_ok {out : jf_S} (hX : jf_Ok RX1 p R s m args meth c A D E cX1_chooses 8 none lv) (F : Nat) (rc : Int32 × Int32 × Int64 × Int32 × jf_S → Option (jf_S)) {lv0 : Nat} (hlr : lv0 + 1 ≤ lv) (hl0 : 5 ≤ lv) (hrc : ∀ a q, rc a = some q → jf_Mv l D E A fo pl yX1_chooses cX1_chooses 8 none lv0 [.ref (E.1 0), .int a.1, .int a.2.1, .long a.2.2.1, .int a.2.2.2.1] a.2.2.2.2 q) (x1 : Int32) (x2 : Int32) (x3 : Int64) (x5 : Int32) (S : jf_S) (h : jf_chooses_B F rc x1 x2 x3 x5 S = some out) : jf_J p l e R s m args below meth c A D E fo pl 8 (jf_Qv below args s A D E fo pl out) 0 [(0, .ref (E.1 0)), (1, .int x1), (2, .int x2), (3, .long x3), (5, .int x5)] [] S := by
  intro H locs ls hP hS hl
  have hX0 := hX
  obtain ⟨hx, hb, hml, hown, hts, hlk, hr, hlv, hV, het⟩ := hX0
  unfold jf_chooses_B at h
  refine lv_aload_n hx hb dX1_chooses_0 rfl (lv_at hl 0 rfl) ?_
  refine jf_get hx hb hts in_X1 hown hV hP (ci := 1) (k := 14) jf_o0 rfl (by decide) (hts _ q468) rfl rfl dX1_chooses_1 ?_
  refine lv_if_eq (tgt := 17) hx hb dX1_chooses_4 rfl (fun c1 => ?_) (fun c1 => ?_)
  · rw [if_pos c1] at h
    exact jf_chooses_b17_ok hX F rc hlr hl0 hrc _ _ _ _ _ h _ _ _ hP hS hl
  · rw [if_neg c1] at h
    refine lv_iload hx hb dX1_chooses_7 (lv_at hl 4 rfl) ?_
    refine lv_aload_n hx hb dX1_chooses_9 rfl (lv_at hl 0 rfl) ?_
    refine jf_get hx hb hts in_X1 hown hV hP (ci := 1) (k := 13) jf_o0 rfl (by decide) (hts _ q467) rfl rfl dX1_chooses_10 ?_
    refine lv_icmp_lt (tgt := 17) hx hb dX1_chooses_13 rfl (fun c2 => ?_) (fun c2 => ?_)
    · rw [if_pos c2] at h
      exact jf_chooses_b17_ok hX F rc hlr hl0 hrc _ _ _ _ _ h _ _ _ hP hS hl
    · rw [if_neg c2] at h
      exact jf_vret hx hb hr hlk hV hP hS h dX1_chooses_16
theorem jf_chooses_metr {l : Launch} {D : va_G} {E : jf_E} {A : Nat → Prop} {fo : Nat → Nat → Option Nat} {pl : va_W} {F : Nat} : ∀ (d : Nat) (a : Int32 × Int32 × Int64 × Int32 × jf_S) (out : jf_S), jx_loop (fun rc (a : Int32 × Int32 × Int64 × Int32 × jf_S) => jf_chooses_B F rc a.1 a.2.1 a.2.2.1 a.2.2.2.1 a.2.2.2.2) d a = some out → jf_Mv l D E A fo pl yX1_chooses cX1_chooses 8 none (5 + d) [.ref (E.1 0), .int a.1, .int a.2.1, .long a.2.2.1, .int a.2.2.2.1] a.2.2.2.2 out := by
  intro d
  induction d with
  | zero => intro a out h; cases h
  | succ d ih =>
    intro a out h
    exact jf_Mv_of (own := RX1) ⟨by decide, rfl, Nat.le_of_ble_eq_true rfl⟩ (fun hX => jf_chooses_B_ok hX F _ (Nat.le_refl _) (Nat.le_add_right _ _) (fun a q hq => ih a q hq) a.1 a.2.1 a.2.2.1 a.2.2.2.1 a.2.2.2.2 h)
theorem jf_chooses_met {l : Launch} {D : va_G} {E : jf_E} {A : Nat → Prop} {fo : Nat → Nat → Option Nat} {pl : va_W} {F : Nat} {x1 : Int32} {x2 : Int32} {x3 : Int64} {x5 : Int32} {S : jf_S} {out : jf_S} (h : jf_chooses F 10 x1 x2 x3 x5 S = some out) : jf_Mv l D E A fo pl yX1_chooses cX1_chooses 8 none 15 [.ref (E.1 0), .int x1, .int x2, .long x3, .int x5] S out := jf_chooses_metr 10 (x1, x2, x3, x5, S) out h
theorem jf_more_g_X1 : GoodIn lw_all (wsV RX1 361 RX1 yX1_more (ws_ yX1_more cX1_more 7 (some .int))) := lw_V q1499 q1501 qs33 q102 q1502
theorem jf_more_d : yX1_more.cls = RX1 ∧ yX1_more.cls ≠ "java/lang/invoke/MethodHandle" ∧ yX1_more.cls ≠ "java/lang/invoke/VarHandle" ∧ (parseMethodDescriptor yX1_more.desc).map (fun d => d.parameters.length) = some 1 := by decide +kernel
theorem jf_more_b60_ok {out : Int32 × jf_S} (hX : jf_Ok RX1 p R s m args meth c A D E cX1_more 7 (some .int) 3) (F : Nat) {r2 : Int32 × Int32 × jf_S → Option (Int32 × jf_S)} (hr2 : ∀ a, r2 a = some out → jf_J p l e R s m args below meth c A D E fo pl 7 (jf_Qi below args s A D E fo pl out) 2 [(0, .ref (E.1 0)), (1, .int a.1), (2, .int a.2.1)] [] a.2.2) {r12 : Int32 × Int32 × Int32 × jf_S → Option (Int32 × jf_S)} (hr12 : ∀ a, r12 a = some out → jf_J p l e R s m args below meth c A D E fo pl 7 (jf_Qi below args s A D E fo pl out) 12 [(0, .ref (E.1 0)), (1, .int a.1), (2, .int a.2.1), (3, .int a.2.2.1)] [] a.2.2.2) (x1 : Int32) (x2 : Int32) (x3 : Int32) (S : jf_S) (h : jf_more_b60 F r2 r12 x1 x2 x3 S = some out) : jf_J p l e R s m args below meth c A D E fo pl 7 (jf_Qi below args s A D E fo pl out) 60 [(0, .ref (E.1 0)), (1, .int x1), (2, .int x2), (3, .int x3)] [] S := by
  intro H locs ls hP hS hl
  have hX0 := hX
  obtain ⟨hx, hb, hml, hown, hts, hlk, hr, hlv, hV, het⟩ := hX0
  unfold jf_more_b60 at h
  obtain ⟨y1, ey1, h⟩ := jx_nx_some h
  refine lv_iinc (v := y1) (lv' := [(3, .int y1), (0, .ref (E.1 0)), (1, .int x1), (2, .int x2)]) hx hb dX1_more_60 hl (k := 3) rfl (jx_inc jx_ki1 ey1) (Nat.le_of_ble_eq_true rfl) rfl (fun ls hl => ?_)
  refine lv_goto (tgt := 12) hx hb dX1_more_63 rfl ?_
  exact hr12 _ h _ _ _ hP hS (lv_sub hl [1, 2, 3, 0] rfl)
theorem jf_more_L12_ok {out : Int32 × jf_S} (hX : jf_Ok RX1 p R s m args meth c A D E cX1_more 7 (some .int) 3) (F : Nat) {r2 : Int32 × Int32 × jf_S → Option (Int32 × jf_S)} (hr2 : ∀ a, r2 a = some out → jf_J p l e R s m args below meth c A D E fo pl 7 (jf_Qi below args s A D E fo pl out) 2 [(0, .ref (E.1 0)), (1, .int a.1), (2, .int a.2.1)] [] a.2.2) {r12 : Int32 × Int32 × Int32 × jf_S → Option (Int32 × jf_S)} (hr12 : ∀ a, r12 a = some out → jf_J p l e R s m args below meth c A D E fo pl 7 (jf_Qi below args s A D E fo pl out) 12 [(0, .ref (E.1 0)), (1, .int a.1), (2, .int a.2.1), (3, .int a.2.2.1)] [] a.2.2.2) (x1 : Int32) (x2 : Int32) (x3 : Int32) (S : jf_S) (h : jf_more_L12 F r2 r12 x1 x2 x3 S = some out) : jf_J p l e R s m args below meth c A D E fo pl 7 (jf_Qi below args s A D E fo pl out) 12 [(0, .ref (E.1 0)), (1, .int x1), (2, .int x2), (3, .int x3)] [] S := by
  intro H locs ls hP hS hl
  have hX0 := hX
  obtain ⟨hx, hb, hml, hown, hts, hlk, hr, hlv, hV, het⟩ := hX0
  unfold jf_more_L12 at h
  refine lv_iload_n hx hb dX1_more_12 rfl (lv_at hl 3 rfl) ?_
  refine lv_iload_n hx hb dX1_more_13 rfl (lv_at hl 2 rfl) ?_
  refine lv_icmp_ge (tgt := 66) hx hb dX1_more_14 rfl (fun c1 => ?_) (fun c1 => ?_)
  · rw [if_pos c1] at h
    obtain ⟨y2, ey2, h⟩ := jx_nx_some h
    refine lv_iinc (v := y2) (lv' := [(2, .int y2), (0, .ref (E.1 0)), (1, .int x1), (3, .int x3)]) hx hb dX1_more_66 hl (k := 2) rfl (jx_inc jx_ki1 ey2) (Nat.le_of_ble_eq_true rfl) rfl (fun ls hl => ?_)
    refine lv_goto (tgt := 2) hx hb dX1_more_69 rfl ?_
    exact hr2 _ h _ _ _ hP hS (lv_sub hl [1, 2, 0] rfl)
  · rw [if_neg c1] at h
    refine lv_aload_n hx hb dX1_more_17 rfl (lv_at hl 0 rfl) ?_
    refine jf_get hx hb hts in_X1 hown hV hP (ci := 1) (k := 9) jf_o0 rfl (by decide) (hts _ q463) rfl rfl dX1_more_18 ?_
    refine lv_iload_n hx hb dX1_more_21 rfl (lv_at hl 2 rfl) ?_
    obtain ⟨j3, ej3, bj3, h⟩ := jx_ga_some h
    refine jf_iald hx hb hV hP jf_a0_9 ej3 bj3 dX1_more_22 ?_
    refine lv_aload_n hx hb dX1_more_23 rfl (lv_at hl 0 rfl) ?_
    refine jf_get hx hb hts in_X1 hown hV hP (ci := 1) (k := 9) jf_o0 rfl (by decide) (hts _ q463) rfl rfl dX1_more_24 ?_
    refine lv_iload_n hx hb dX1_more_27 rfl (lv_at hl 3 rfl) ?_
    obtain ⟨j4, ej4, bj4, h⟩ := jx_ga_some h
    refine jf_iald hx hb hV hP jf_a0_9 ej4 bj4 dX1_more_28 ?_
    refine lv_icmp_eq (tgt := 60) hx hb dX1_more_29 rfl (fun c5 => ?_) (fun c5 => ?_)
    · rw [if_pos c5] at h
      exact jf_more_b60_ok hX F hr2 hr12 _ _ _ _ h _ _ _ hP hS hl
    · rw [if_neg c5] at h
      refine lv_aload_n hx hb dX1_more_32 rfl (lv_at hl 0 rfl) ?_
      refine lv_aload_n hx hb dX1_more_33 rfl (lv_at hl 0 rfl) ?_
      refine jf_get hx hb hts in_X1 hown hV hP (ci := 1) (k := 8) jf_o0 rfl (by decide) (hts _ q462) rfl rfl dX1_more_34 ?_
      refine lv_iload_n hx hb dX1_more_37 rfl (lv_at hl 2 rfl) ?_
      obtain ⟨j6, ej6, bj6, h⟩ := jx_ga_some h
      refine jf_iald hx hb hV hP jf_a0_8 ej6 bj6 dX1_more_38 ?_
      obtain ⟨q7, eq7, h⟩ := jx_bi_some h
      refine jf_callL hx hb hml hown hts hlv hV (jf_letsOf_met eq7) jf_letsOf_g_X1 jf_letsOf_d (As := [.int (S.2.2.1 0 8 j6)]) (Nat.le_of_ble_eq_true rfl) (Nat.le_of_ble_eq_true rfl) hP hS (ci := 1) jf_o0 rfl hl.1 rfl rfl (lv_room (Nat.le_of_ble_eq_true rfl)) dX1_more_39 (fun H locs hP hS => ?_)
      refine lv_aload_n hx hb dX1_more_42 rfl (lv_at hl 0 rfl) ?_
      refine lv_aload_n hx hb dX1_more_43 rfl (lv_at hl 0 rfl) ?_
      refine jf_get hx hb hts in_X1 hown hV hP (ci := 1) (k := 8) jf_o0 rfl (by decide) (hts _ q462) rfl rfl dX1_more_44 ?_
      refine lv_iload_n hx hb dX1_more_47 rfl (lv_at hl 3 rfl) ?_
      obtain ⟨j8, ej8, bj8, h⟩ := jx_ga_some h
      refine jf_iald hx hb hV hP jf_a0_8 ej8 bj8 dX1_more_48 ?_
      obtain ⟨q9, eq9, h⟩ := jx_bi_some h
      refine jf_callL hx hb hml hown hts hlv hV (jf_letsOf_met eq9) jf_letsOf_g_X1 jf_letsOf_d (As := [.int (q7.2.2.2.1 0 8 j8)]) (Nat.le_of_ble_eq_true rfl) (Nat.le_of_ble_eq_true rfl) hP hS (ci := 1) jf_o0 rfl hl.1 rfl rfl (lv_room (Nat.le_of_ble_eq_true rfl)) dX1_more_49 (fun H locs hP hS => ?_)
      refine lv_land hx hb dX1_more_52 ?_
      refine lv_lconst hx hb dX1_more_53 jx_kl0 ?_
      refine W.lcmp hx hb dX1_more_54 ?_
      refine lv_if_eq (tgt := 60) hx hb dX1_more_55 rfl (fun c10 => ?_) (fun c10 => ?_)
      · rw [if_pos c10] at h
        exact jf_more_b60_ok hX F hr2 hr12 _ _ _ _ h _ _ _ hP hS hl
      · rw [if_neg c10] at h
        refine lv_iconst hx hb dX1_more_58 jx_kim1 ?_
        exact jf_iret hx hb hr hlk hV hP hS h dX1_more_59
theorem jf_more_h12_ok {out : Int32 × jf_S} (hX : jf_Ok RX1 p R s m args meth c A D E cX1_more 7 (some .int) 3) (F : Nat) {r2 : Int32 × Int32 × jf_S → Option (Int32 × jf_S)} (hr2 : ∀ a, r2 a = some out → jf_J p l e R s m args below meth c A D E fo pl 7 (jf_Qi below args s A D E fo pl out) 2 [(0, .ref (E.1 0)), (1, .int a.1), (2, .int a.2.1)] [] a.2.2) (n : Nat) (a : Int32 × Int32 × Int32 × jf_S) (h : jf_more_h12 F r2 n a = some out) : jf_J p l e R s m args below meth c A D E fo pl 7 (jf_Qi below args s A D E fo pl out) 12 [(0, .ref (E.1 0)), (1, .int a.1), (2, .int a.2.1), (3, .int a.2.2.1)] [] a.2.2.2 :=
  jx_loop_ind (J := fun a => jf_J p l e R s m args below meth c A D E fo pl 7 (jf_Qi below args s A D E fo pl out) 12 [(0, .ref (E.1 0)), (1, .int a.1), (2, .int a.2.1), (3, .int a.2.2.1)] [] a.2.2.2) (fun r hr a h => jf_more_L12_ok hX F hr2 hr a.1 a.2.1 a.2.2.1 a.2.2.2 h) n a h
theorem jf_more_b124_ok {out : Int32 × jf_S} (hX : jf_Ok RX1 p R s m args meth c A D E cX1_more 7 (some .int) 3) (F : Nat) {r76 : Int32 × Int32 × Int32 × jf_S → Option (Int32 × jf_S)} (hr76 : ∀ a, r76 a = some out → jf_J p l e R s m args below meth c A D E fo pl 7 (jf_Qi below args s A D E fo pl out) 76 [(0, .ref (E.1 0)), (1, .int a.1), (2, .int a.2.1), (3, .int a.2.2.1)] [] a.2.2.2) {r87 : Int32 × Int32 × Int32 × Int64 × Int32 × jf_S → Option (Int32 × jf_S)} (hr87 : ∀ a, r87 a = some out → jf_J p l e R s m args below meth c A D E fo pl 7 (jf_Qi below args s A D E fo pl out) 87 [(0, .ref (E.1 0)), (1, .int a.1), (2, .int a.2.1), (3, .int a.2.2.1), (4, .long a.2.2.2.1), (6, .int a.2.2.2.2.1)] [] a.2.2.2.2.2) (x1 : Int32) (x2 : Int32) (x3 : Int32) (x6 : Int32) (k0 : Int64) (k1 : Int64) (S : jf_S) (h : jf_more_b124 F r76 r87 x1 x2 x3 x6 k0 k1 S = some out) : jf_J p l e R s m args below meth c A D E fo pl 7 (jf_Qi below args s A D E fo pl out) 124 [(0, .ref (E.1 0)), (1, .int x1), (2, .int x2), (3, .int x3), (6, .int x6)] [.long k0, .long k1] S := by
  intro H locs ls hP hS hl
  have hX0 := hX
  obtain ⟨hx, hb, hml, hown, hts, hlk, hr, hlv, hV, het⟩ := hX0
  unfold jf_more_b124 at h
  refine lv_lor hx hb dX1_more_124 ?_
  obtain ⟨y1, ey1, h⟩ := jx_nx_some h
  refine jx_topl ey1 ?_
  refine lv_lstore (lv' := [(4, .long y1), (0, .ref (E.1 0)), (1, .int x1), (2, .int x2), (3, .int x3), (6, .int x6)]) hx hb dX1_more_125 hl (Nat.le_of_ble_eq_true rfl) rfl (fun ls hl => ?_)
  obtain ⟨y2, ey2, h⟩ := jx_nx_some h
  refine lv_iinc (v := y2) (lv' := [(6, .int y2), (4, .long y1), (0, .ref (E.1 0)), (1, .int x1), (2, .int x2), (3, .int x3)]) hx hb dX1_more_127 hl (k := 5) rfl (jx_inc jx_ki1 ey2) (Nat.le_of_ble_eq_true rfl) rfl (fun ls hl => ?_)
  refine lv_goto (tgt := 87) hx hb dX1_more_130 rfl ?_
  exact hr87 _ h _ _ _ hP hS (lv_sub hl [2, 3, 4, 5, 1, 0] rfl)
theorem jf_more_b181_ok {out : Int32 × jf_S} (hX : jf_Ok RX1 p R s m args meth c A D E cX1_more 7 (some .int) 3) (F : Nat) {r76 : Int32 × Int32 × Int32 × jf_S → Option (Int32 × jf_S)} (hr76 : ∀ a, r76 a = some out → jf_J p l e R s m args below meth c A D E fo pl 7 (jf_Qi below args s A D E fo pl out) 76 [(0, .ref (E.1 0)), (1, .int a.1), (2, .int a.2.1), (3, .int a.2.2.1)] [] a.2.2.2) {r136 : Int32 × Int32 × Int32 × Int64 × Int32 × jf_S → Option (Int32 × jf_S)} (hr136 : ∀ a, r136 a = some out → jf_J p l e R s m args below meth c A D E fo pl 7 (jf_Qi below args s A D E fo pl out) 136 [(0, .ref (E.1 0)), (1, .int a.1), (2, .int a.2.1), (3, .int a.2.2.1), (4, .long a.2.2.2.1), (6, .int a.2.2.2.2.1)] [] a.2.2.2.2.2) (x1 : Int32) (x3 : Int32) (x4 : Int64) (x6 : Int32) (k0 : Int32) (k1 : Int32) (S : jf_S) (h : jf_more_b181 F r76 r136 x1 x3 x4 x6 k0 k1 S = some out) : jf_J p l e R s m args below meth c A D E fo pl 7 (jf_Qi below args s A D E fo pl out) 181 [(0, .ref (E.1 0)), (1, .int x1), (3, .int x3), (4, .long x4), (6, .int x6)] [.int k0, .int k1] S := by
  intro H locs ls hP hS hl
  have hX0 := hX
  obtain ⟨hx, hb, hml, hown, hts, hlk, hr, hlv, hV, het⟩ := hX0
  unfold jf_more_b181 at h
  refine lv_iadd hx hb dX1_more_181 ?_
  obtain ⟨y1, ey1, h⟩ := jx_nx_some h
  refine jx_topi ey1 ?_
  refine lv_istore_n (lv' := [(2, .int y1), (0, .ref (E.1 0)), (1, .int x1), (3, .int x3), (4, .long x4), (6, .int x6)]) hx hb dX1_more_182 rfl hl (Nat.le_of_ble_eq_true rfl) rfl (fun ls hl => ?_)
  obtain ⟨y2, ey2, h⟩ := jx_nx_some h
  refine lv_iinc (v := y2) (lv' := [(6, .int y2), (2, .int y1), (0, .ref (E.1 0)), (1, .int x1), (3, .int x3), (4, .long x4)]) hx hb dX1_more_183 hl (k := 5) rfl (jx_inc jx_ki1 ey2) (Nat.le_of_ble_eq_true rfl) rfl (fun ls hl => ?_)
  refine lv_goto (tgt := 136) hx hb dX1_more_186 rfl ?_
  exact hr136 _ h _ _ _ hP hS (lv_sub hl [2, 3, 1, 4, 5, 0] rfl)
theorem jf_more_L136_ok {out : Int32 × jf_S} (hX : jf_Ok RX1 p R s m args meth c A D E cX1_more 7 (some .int) 3) (F : Nat) {r76 : Int32 × Int32 × Int32 × jf_S → Option (Int32 × jf_S)} (hr76 : ∀ a, r76 a = some out → jf_J p l e R s m args below meth c A D E fo pl 7 (jf_Qi below args s A D E fo pl out) 76 [(0, .ref (E.1 0)), (1, .int a.1), (2, .int a.2.1), (3, .int a.2.2.1)] [] a.2.2.2) {r136 : Int32 × Int32 × Int32 × Int64 × Int32 × jf_S → Option (Int32 × jf_S)} (hr136 : ∀ a, r136 a = some out → jf_J p l e R s m args below meth c A D E fo pl 7 (jf_Qi below args s A D E fo pl out) 136 [(0, .ref (E.1 0)), (1, .int a.1), (2, .int a.2.1), (3, .int a.2.2.1), (4, .long a.2.2.2.1), (6, .int a.2.2.2.2.1)] [] a.2.2.2.2.2) (x1 : Int32) (x2 : Int32) (x3 : Int32) (x4 : Int64) (x6 : Int32) (S : jf_S) (h : jf_more_L136 F r76 r136 x1 x2 x3 x4 x6 S = some out) : jf_J p l e R s m args below meth c A D E fo pl 7 (jf_Qi below args s A D E fo pl out) 136 [(0, .ref (E.1 0)), (1, .int x1), (2, .int x2), (3, .int x3), (4, .long x4), (6, .int x6)] [] S := by
  intro H locs ls hP hS hl
  have hX0 := hX
  obtain ⟨hx, hb, hml, hown, hts, hlk, hr, hlv, hV, het⟩ := hX0
  unfold jf_more_L136 at h
  refine lv_iload hx hb dX1_more_136 (lv_at hl 5 rfl) ?_
  refine lv_aload_n hx hb dX1_more_138 rfl (lv_at hl 0 rfl) ?_
  refine jf_get hx hb hts in_X1 hown hV hP (ci := 1) (k := 11) jf_o0 rfl (by decide) (hts _ q465) rfl rfl dX1_more_139 ?_
  refine lv_icmp_ge (tgt := 189) hx hb dX1_more_142 rfl (fun c1 => ?_) (fun c1 => ?_)
  · rw [if_pos c1] at h
    obtain ⟨y2, ey2, h⟩ := jx_nx_some h
    refine lv_iinc (v := y2) (lv' := [(3, .int y2), (0, .ref (E.1 0)), (1, .int x1), (2, .int x2), (4, .long x4), (6, .int x6)]) hx hb dX1_more_189 hl (k := 3) rfl (jx_inc jx_ki1 ey2) (Nat.le_of_ble_eq_true rfl) rfl (fun ls hl => ?_)
    refine lv_goto (tgt := 76) hx hb dX1_more_192 rfl ?_
    exact hr76 _ h _ _ _ hP hS (lv_sub hl [1, 2, 3, 0] rfl)
  · rw [if_neg c1] at h
    refine lv_iload_n hx hb dX1_more_145 rfl (lv_at hl 2 rfl) ?_
    refine lv_aload_n hx hb dX1_more_146 rfl (lv_at hl 0 rfl) ?_
    refine jf_get hx hb hts in_X1 hown hV hP (ci := 1) (k := 9) jf_o0 rfl (by decide) (hts _ q463) rfl rfl dX1_more_147 ?_
    refine lv_iload hx hb dX1_more_150 (lv_at hl 5 rfl) ?_
    obtain ⟨j3, ej3, bj3, h⟩ := jx_ga_some h
    refine jf_iald hx hb hV hP jf_a0_9 ej3 bj3 dX1_more_152 ?_
    refine lv_iload_n hx hb dX1_more_153 rfl (lv_at hl 3 rfl) ?_
    refine lv_icmp_ne (tgt := 180) hx hb dX1_more_154 rfl (fun c4 => ?_) (fun c4 => ?_)
    · rw [if_neg c4] at h
      refine lv_iconst hx hb dX1_more_180 jx_ki0 ?_
      exact jf_more_b181_ok hX F hr76 hr136 _ _ _ _ _ _ _ h _ _ _ hP hS (lv_sub hl [0, 1, 3, 4, 5] rfl)
    · rw [if_pos c4] at h
      refine lv_lload hx hb dX1_more_157 (lv_at hl 4 rfl) ?_
      obtain ⟨q5, eq5, h⟩ := jx_bi_some h
      refine jx_callSi hx hb hml hown hts (jx_lbits_met eq5) jx_lbits_g_X1 jx_lbits_d (As := [.long x4]) (⟨Nat.le_trans (Nat.le_of_ble_eq_true rfl) hlv.1, Nat.le_trans (Nat.le_of_ble_eq_true rfl) hlv.2⟩) hl.1 rfl rfl (lv_room (Nat.le_of_ble_eq_true rfl)) dX1_more_159 ⟨Nat.zero_le _, Nat.zero_le _⟩ ?_
      refine lv_aload_n hx hb dX1_more_162 rfl (lv_at hl 0 rfl) ?_
      refine lv_aload_n hx hb dX1_more_163 rfl (lv_at hl 0 rfl) ?_
      refine jf_get hx hb hts in_X1 hown hV hP (ci := 1) (k := 8) jf_o0 rfl (by decide) (hts _ q462) rfl rfl dX1_more_164 ?_
      refine lv_iload hx hb dX1_more_167 (lv_at hl 5 rfl) ?_
      obtain ⟨j6, ej6, bj6, h⟩ := jx_ga_some h
      refine jf_iald hx hb hV hP jf_a0_8 ej6 bj6 dX1_more_169 ?_
      obtain ⟨q7, eq7, h⟩ := jx_bi_some h
      refine jf_callL hx hb hml hown hts hlv hV (jf_letsOf_met eq7) jf_letsOf_g_X1 jf_letsOf_d (As := [.int (S.2.2.1 0 8 j6)]) (Nat.le_of_ble_eq_true rfl) (Nat.le_of_ble_eq_true rfl) hP hS (ci := 1) jf_o0 rfl hl.1 rfl rfl (lv_room (Nat.le_of_ble_eq_true rfl)) dX1_more_170 (fun H locs hP hS => ?_)
      obtain ⟨q8, eq8, h⟩ := jx_bi_some h
      refine jx_callSi hx hb hml hown hts (jx_lbits_met eq8) jx_lbits_g_X1 jx_lbits_d (As := [.long q7.1]) (⟨Nat.le_trans (Nat.le_of_ble_eq_true rfl) hlv.1, Nat.le_trans (Nat.le_of_ble_eq_true rfl) hlv.2⟩) hl.1 rfl rfl (lv_room (Nat.le_of_ble_eq_true rfl)) dX1_more_173 ⟨Nat.zero_le _, Nat.zero_le _⟩ ?_
      refine lv_isub hx hb dX1_more_176 ?_
      refine lv_goto (tgt := 181) hx hb dX1_more_177 rfl ?_
      exact jf_more_b181_ok hX F hr76 hr136 _ _ _ _ _ _ _ h _ _ _ hP hS (lv_sub hl [0, 1, 3, 4, 5] rfl)
theorem jf_more_h136_ok {out : Int32 × jf_S} (hX : jf_Ok RX1 p R s m args meth c A D E cX1_more 7 (some .int) 3) (F : Nat) {r76 : Int32 × Int32 × Int32 × jf_S → Option (Int32 × jf_S)} (hr76 : ∀ a, r76 a = some out → jf_J p l e R s m args below meth c A D E fo pl 7 (jf_Qi below args s A D E fo pl out) 76 [(0, .ref (E.1 0)), (1, .int a.1), (2, .int a.2.1), (3, .int a.2.2.1)] [] a.2.2.2) (n : Nat) (a : Int32 × Int32 × Int32 × Int64 × Int32 × jf_S) (h : jf_more_h136 F r76 n a = some out) : jf_J p l e R s m args below meth c A D E fo pl 7 (jf_Qi below args s A D E fo pl out) 136 [(0, .ref (E.1 0)), (1, .int a.1), (2, .int a.2.1), (3, .int a.2.2.1), (4, .long a.2.2.2.1), (6, .int a.2.2.2.2.1)] [] a.2.2.2.2.2 :=
  jx_loop_ind (J := fun a => jf_J p l e R s m args below meth c A D E fo pl 7 (jf_Qi below args s A D E fo pl out) 136 [(0, .ref (E.1 0)), (1, .int a.1), (2, .int a.2.1), (3, .int a.2.2.1), (4, .long a.2.2.2.1), (6, .int a.2.2.2.2.1)] [] a.2.2.2.2.2) (fun r hr a h => jf_more_L136_ok hX F hr76 hr a.1 a.2.1 a.2.2.1 a.2.2.2.1 a.2.2.2.2.1 a.2.2.2.2.2 h) n a h
theorem jf_more_L87_ok {out : Int32 × jf_S} (hX : jf_Ok RX1 p R s m args meth c A D E cX1_more 7 (some .int) 3) (F : Nat) {r76 : Int32 × Int32 × Int32 × jf_S → Option (Int32 × jf_S)} (hr76 : ∀ a, r76 a = some out → jf_J p l e R s m args below meth c A D E fo pl 7 (jf_Qi below args s A D E fo pl out) 76 [(0, .ref (E.1 0)), (1, .int a.1), (2, .int a.2.1), (3, .int a.2.2.1)] [] a.2.2.2) {r87 : Int32 × Int32 × Int32 × Int64 × Int32 × jf_S → Option (Int32 × jf_S)} (hr87 : ∀ a, r87 a = some out → jf_J p l e R s m args below meth c A D E fo pl 7 (jf_Qi below args s A D E fo pl out) 87 [(0, .ref (E.1 0)), (1, .int a.1), (2, .int a.2.1), (3, .int a.2.2.1), (4, .long a.2.2.2.1), (6, .int a.2.2.2.2.1)] [] a.2.2.2.2.2) (x1 : Int32) (x2 : Int32) (x3 : Int32) (x4 : Int64) (x6 : Int32) (S : jf_S) (h : jf_more_L87 F r76 r87 x1 x2 x3 x4 x6 S = some out) : jf_J p l e R s m args below meth c A D E fo pl 7 (jf_Qi below args s A D E fo pl out) 87 [(0, .ref (E.1 0)), (1, .int x1), (2, .int x2), (3, .int x3), (4, .long x4), (6, .int x6)] [] S := by
  intro H locs ls hP hS hl
  have hX0 := hX
  obtain ⟨hx, hb, hml, hown, hts, hlk, hr, hlv, hV, het⟩ := hX0
  unfold jf_more_L87 at h
  refine lv_iload hx hb dX1_more_87 (lv_at hl 5 rfl) ?_
  refine lv_aload_n hx hb dX1_more_89 rfl (lv_at hl 0 rfl) ?_
  refine jf_get hx hb hts in_X1 hown hV hP (ci := 1) (k := 11) jf_o0 rfl (by decide) (hts _ q465) rfl rfl dX1_more_90 ?_
  refine lv_icmp_ge (tgt := 133) hx hb dX1_more_93 rfl (fun c1 => ?_) (fun c1 => ?_)
  · rw [if_pos c1] at h
    refine lv_iconst hx hb dX1_more_133 jx_ki0 ?_
    obtain ⟨y2, ey2, h⟩ := jx_nx_some h
    refine jx_topi ey2 ?_
    refine lv_istore (lv' := [(6, .int y2), (0, .ref (E.1 0)), (1, .int x1), (2, .int x2), (3, .int x3), (4, .long x4)]) hx hb dX1_more_134 hl (Nat.le_of_ble_eq_true rfl) rfl (fun ls hl => ?_)
    exact jf_more_h136_ok hX F hr76 F _ h _ _ _ hP hS (lv_sub hl [1, 2, 3, 4, 5, 0] rfl)
  · rw [if_neg c1] at h
    refine lv_lload hx hb dX1_more_96 (lv_at hl 4 rfl) ?_
    refine lv_aload_n hx hb dX1_more_98 rfl (lv_at hl 0 rfl) ?_
    refine jf_get hx hb hts in_X1 hown hV hP (ci := 1) (k := 9) jf_o0 rfl (by decide) (hts _ q463) rfl rfl dX1_more_99 ?_
    refine lv_iload hx hb dX1_more_102 (lv_at hl 5 rfl) ?_
    obtain ⟨j3, ej3, bj3, h⟩ := jx_ga_some h
    refine jf_iald hx hb hV hP jf_a0_9 ej3 bj3 dX1_more_104 ?_
    refine lv_iload_n hx hb dX1_more_105 rfl (lv_at hl 3 rfl) ?_
    refine lv_icmp_ne (tgt := 123) hx hb dX1_more_106 rfl (fun c4 => ?_) (fun c4 => ?_)
    · rw [if_neg c4] at h
      refine lv_lconst hx hb dX1_more_123 jx_kl0 ?_
      exact jf_more_b124_ok hX F hr76 hr87 _ _ _ _ _ _ _ h _ _ _ hP hS (lv_sub hl [0, 1, 2, 3, 5] rfl)
    · rw [if_pos c4] at h
      refine lv_aload_n hx hb dX1_more_109 rfl (lv_at hl 0 rfl) ?_
      refine lv_aload_n hx hb dX1_more_110 rfl (lv_at hl 0 rfl) ?_
      refine jf_get hx hb hts in_X1 hown hV hP (ci := 1) (k := 8) jf_o0 rfl (by decide) (hts _ q462) rfl rfl dX1_more_111 ?_
      refine lv_iload hx hb dX1_more_114 (lv_at hl 5 rfl) ?_
      obtain ⟨j5, ej5, bj5, h⟩ := jx_ga_some h
      refine jf_iald hx hb hV hP jf_a0_8 ej5 bj5 dX1_more_116 ?_
      obtain ⟨q6, eq6, h⟩ := jx_bi_some h
      refine jf_callL hx hb hml hown hts hlv hV (jf_letsOf_met eq6) jf_letsOf_g_X1 jf_letsOf_d (As := [.int (S.2.2.1 0 8 j5)]) (Nat.le_of_ble_eq_true rfl) (Nat.le_of_ble_eq_true rfl) hP hS (ci := 1) jf_o0 rfl hl.1 rfl rfl (lv_room (Nat.le_of_ble_eq_true rfl)) dX1_more_117 (fun H locs hP hS => ?_)
      refine lv_goto (tgt := 124) hx hb dX1_more_120 rfl ?_
      exact jf_more_b124_ok hX F hr76 hr87 _ _ _ _ _ _ _ h _ _ _ hP hS (lv_sub hl [0, 1, 2, 3, 5] rfl)
theorem jf_more_h87_ok {out : Int32 × jf_S} (hX : jf_Ok RX1 p R s m args meth c A D E cX1_more 7 (some .int) 3) (F : Nat) {r76 : Int32 × Int32 × Int32 × jf_S → Option (Int32 × jf_S)} (hr76 : ∀ a, r76 a = some out → jf_J p l e R s m args below meth c A D E fo pl 7 (jf_Qi below args s A D E fo pl out) 76 [(0, .ref (E.1 0)), (1, .int a.1), (2, .int a.2.1), (3, .int a.2.2.1)] [] a.2.2.2) (n : Nat) (a : Int32 × Int32 × Int32 × Int64 × Int32 × jf_S) (h : jf_more_h87 F r76 n a = some out) : jf_J p l e R s m args below meth c A D E fo pl 7 (jf_Qi below args s A D E fo pl out) 87 [(0, .ref (E.1 0)), (1, .int a.1), (2, .int a.2.1), (3, .int a.2.2.1), (4, .long a.2.2.2.1), (6, .int a.2.2.2.2.1)] [] a.2.2.2.2.2 :=
  jx_loop_ind (J := fun a => jf_J p l e R s m args below meth c A D E fo pl 7 (jf_Qi below args s A D E fo pl out) 87 [(0, .ref (E.1 0)), (1, .int a.1), (2, .int a.2.1), (3, .int a.2.2.1), (4, .long a.2.2.2.1), (6, .int a.2.2.2.2.1)] [] a.2.2.2.2.2) (fun r hr a h => jf_more_L87_ok hX F hr76 hr a.1 a.2.1 a.2.2.1 a.2.2.2.1 a.2.2.2.2.1 a.2.2.2.2.2 h) n a h
theorem jf_more_L76_ok {out : Int32 × jf_S} (hX : jf_Ok RX1 p R s m args meth c A D E cX1_more 7 (some .int) 3) (F : Nat) {r76 : Int32 × Int32 × Int32 × jf_S → Option (Int32 × jf_S)} (hr76 : ∀ a, r76 a = some out → jf_J p l e R s m args below meth c A D E fo pl 7 (jf_Qi below args s A D E fo pl out) 76 [(0, .ref (E.1 0)), (1, .int a.1), (2, .int a.2.1), (3, .int a.2.2.1)] [] a.2.2.2) (x1 : Int32) (x2 : Int32) (x3 : Int32) (S : jf_S) (h : jf_more_L76 F r76 x1 x2 x3 S = some out) : jf_J p l e R s m args below meth c A D E fo pl 7 (jf_Qi below args s A D E fo pl out) 76 [(0, .ref (E.1 0)), (1, .int x1), (2, .int x2), (3, .int x3)] [] S := by
  intro H locs ls hP hS hl
  have hX0 := hX
  obtain ⟨hx, hb, hml, hown, hts, hlk, hr, hlv, hV, het⟩ := hX0
  unfold jf_more_L76 at h
  refine lv_iload_n hx hb dX1_more_76 rfl (lv_at hl 3 rfl) ?_
  refine lv_iload_n hx hb dX1_more_77 rfl (lv_at hl 1 rfl) ?_
  refine lv_icmp_ge (tgt := 195) hx hb dX1_more_78 rfl (fun c1 => ?_) (fun c1 => ?_)
  · rw [if_pos c1] at h
    refine lv_iload_n hx hb dX1_more_195 rfl (lv_at hl 2 rfl) ?_
    exact jf_iret hx hb hr hlk hV hP hS h dX1_more_196
  · rw [if_neg c1] at h
    refine lv_lconst hx hb dX1_more_81 jx_kl0 ?_
    obtain ⟨y2, ey2, h⟩ := jx_nx_some h
    refine jx_topl ey2 ?_
    refine lv_lstore (lv' := [(4, .long y2), (0, .ref (E.1 0)), (1, .int x1), (2, .int x2), (3, .int x3)]) hx hb dX1_more_82 hl (Nat.le_of_ble_eq_true rfl) rfl (fun ls hl => ?_)
    refine lv_iconst hx hb dX1_more_84 jx_ki0 ?_
    obtain ⟨y3, ey3, h⟩ := jx_nx_some h
    refine jx_topi ey3 ?_
    refine lv_istore (lv' := [(6, .int y3), (4, .long y2), (0, .ref (E.1 0)), (1, .int x1), (2, .int x2), (3, .int x3)]) hx hb dX1_more_85 hl (Nat.le_of_ble_eq_true rfl) rfl (fun ls hl => ?_)
    exact jf_more_h87_ok hX F hr76 F _ h _ _ _ hP hS (lv_sub hl [2, 3, 4, 5, 1, 0] rfl)
theorem jf_more_h76_ok {out : Int32 × jf_S} (hX : jf_Ok RX1 p R s m args meth c A D E cX1_more 7 (some .int) 3) (F : Nat) (n : Nat) (a : Int32 × Int32 × Int32 × jf_S) (h : jf_more_h76 F n a = some out) : jf_J p l e R s m args below meth c A D E fo pl 7 (jf_Qi below args s A D E fo pl out) 76 [(0, .ref (E.1 0)), (1, .int a.1), (2, .int a.2.1), (3, .int a.2.2.1)] [] a.2.2.2 :=
  jx_loop_ind (J := fun a => jf_J p l e R s m args below meth c A D E fo pl 7 (jf_Qi below args s A D E fo pl out) 76 [(0, .ref (E.1 0)), (1, .int a.1), (2, .int a.2.1), (3, .int a.2.2.1)] [] a.2.2.2) (fun r hr a h => jf_more_L76_ok hX F hr a.1 a.2.1 a.2.2.1 a.2.2.2 h) n a h
theorem jf_more_L2_ok {out : Int32 × jf_S} (hX : jf_Ok RX1 p R s m args meth c A D E cX1_more 7 (some .int) 3) (F : Nat) {r2 : Int32 × Int32 × jf_S → Option (Int32 × jf_S)} (hr2 : ∀ a, r2 a = some out → jf_J p l e R s m args below meth c A D E fo pl 7 (jf_Qi below args s A D E fo pl out) 2 [(0, .ref (E.1 0)), (1, .int a.1), (2, .int a.2.1)] [] a.2.2) (x1 : Int32) (x2 : Int32) (S : jf_S) (h : jf_more_L2 F r2 x1 x2 S = some out) : jf_J p l e R s m args below meth c A D E fo pl 7 (jf_Qi below args s A D E fo pl out) 2 [(0, .ref (E.1 0)), (1, .int x1), (2, .int x2)] [] S := by
  intro H locs ls hP hS hl
  have hX0 := hX
  obtain ⟨hx, hb, hml, hown, hts, hlk, hr, hlv, hV, het⟩ := hX0
  unfold jf_more_L2 at h
  refine lv_iload_n hx hb dX1_more_2 rfl (lv_at hl 2 rfl) ?_
  refine lv_aload_n hx hb dX1_more_3 rfl (lv_at hl 0 rfl) ?_
  refine jf_get hx hb hts in_X1 hown hV hP (ci := 1) (k := 11) jf_o0 rfl (by decide) (hts _ q465) rfl rfl dX1_more_4 ?_
  refine lv_icmp_ge (tgt := 72) hx hb dX1_more_7 rfl (fun c1 => ?_) (fun c1 => ?_)
  · rw [if_pos c1] at h
    refine lv_iconst hx hb dX1_more_72 jx_ki0 ?_
    obtain ⟨y2, ey2, h⟩ := jx_nx_some h
    refine jx_topi ey2 ?_
    refine lv_istore_n (lv' := [(2, .int y2), (0, .ref (E.1 0)), (1, .int x1)]) hx hb dX1_more_73 rfl hl (Nat.le_of_ble_eq_true rfl) rfl (fun ls hl => ?_)
    refine lv_iconst hx hb dX1_more_74 jx_ki0 ?_
    obtain ⟨y3, ey3, h⟩ := jx_nx_some h
    refine jx_topi ey3 ?_
    refine lv_istore_n (lv' := [(3, .int y3), (2, .int y2), (0, .ref (E.1 0)), (1, .int x1)]) hx hb dX1_more_75 rfl hl (Nat.le_of_ble_eq_true rfl) rfl (fun ls hl => ?_)
    exact jf_more_h76_ok hX F F _ h _ _ _ hP hS (lv_sub hl [2, 3, 1, 0] rfl)
  · rw [if_neg c1] at h
    refine lv_iconst hx hb dX1_more_10 jx_ki0 ?_
    obtain ⟨y4, ey4, h⟩ := jx_nx_some h
    refine jx_topi ey4 ?_
    refine lv_istore_n (lv' := [(3, .int y4), (0, .ref (E.1 0)), (1, .int x1), (2, .int x2)]) hx hb dX1_more_11 rfl hl (Nat.le_of_ble_eq_true rfl) rfl (fun ls hl => ?_)
    exact jf_more_h12_ok hX F hr2 F _ h _ _ _ hP hS (lv_sub hl [1, 2, 3, 0] rfl)
theorem jf_more_h2_ok {out : Int32 × jf_S} (hX : jf_Ok RX1 p R s m args meth c A D E cX1_more 7 (some .int) 3) (F : Nat) (n : Nat) (a : Int32 × Int32 × jf_S) (h : jf_more_h2 F n a = some out) : jf_J p l e R s m args below meth c A D E fo pl 7 (jf_Qi below args s A D E fo pl out) 2 [(0, .ref (E.1 0)), (1, .int a.1), (2, .int a.2.1)] [] a.2.2 :=
  jx_loop_ind (J := fun a => jf_J p l e R s m args below meth c A D E fo pl 7 (jf_Qi below args s A D E fo pl out) 2 [(0, .ref (E.1 0)), (1, .int a.1), (2, .int a.2.1)] [] a.2.2) (fun r hr a h => jf_more_L2_ok hX F hr a.1 a.2.1 a.2.2 h) n a h
theorem jf_more_ok {out : Int32 × jf_S} (hX : jf_Ok RX1 p R s m args meth c A D E cX1_more 7 (some .int) 3) (F : Nat) (x1 : Int32) (S : jf_S) (h : jf_more F x1 S = some out) : jf_J p l e R s m args below meth c A D E fo pl 7 (jf_Qi below args s A D E fo pl out) 0 [(0, .ref (E.1 0)), (1, .int x1)] [] S := by
  intro H locs ls hP hS hl
  have hX0 := hX
  obtain ⟨hx, hb, hml, hown, hts, hlk, hr, hlv, hV, het⟩ := hX0
  unfold jf_more at h
  refine lv_iconst hx hb dX1_more_0 jx_ki0 ?_
  obtain ⟨y1, ey1, h⟩ := jx_nx_some h
  refine jx_topi ey1 ?_
  refine lv_istore_n (lv' := [(2, .int y1), (0, .ref (E.1 0)), (1, .int x1)]) hx hb dX1_more_1 rfl hl (Nat.le_of_ble_eq_true rfl) rfl (fun ls hl => ?_)
  exact jf_more_h2_ok hX F F _ h _ _ _ hP hS (lv_sub hl [1, 2, 0] rfl)
theorem jf_more_met {l : Launch} {D : va_G} {E : jf_E} {A : Nat → Prop} {fo : Nat → Nat → Option Nat} {pl : va_W} {F : Nat} {x1 : Int32} {S : jf_S} {out : Int32 × jf_S} (h : jf_more F x1 S = some out) : jf_Mi l D E A fo pl yX1_more cX1_more 7 (some .int) 3 [.ref (E.1 0), .int x1] S out :=
  jf_Mi_of (own := RX1) ⟨by decide, rfl, Nat.le_of_ble_eq_true rfl⟩ (fun hX => jf_more_ok hX F x1 S h)
theorem jf_parts_g_X1 : GoodIn lw_all (wsV RX1 365 RX1 yX1_parts (ws_ yX1_parts cX1_parts 5 none)) := lw_V q1495 q1497 qs32 q102 q1498
theorem jf_parts_d : yX1_parts.cls = RX1 ∧ yX1_parts.cls ≠ "java/lang/invoke/MethodHandle" ∧ yX1_parts.cls ≠ "java/lang/invoke/VarHandle" ∧ (parseMethodDescriptor yX1_parts.desc).map (fun d => d.parameters.length) = some 3 := by decide +kernel
theorem jf_parts_b38_ok {out : jf_S} (hX : jf_Ok RX1 p R s m args meth c A D E cX1_parts 5 none lv) (F : Nat) (rc : Int32 × Int32 × Int32 × jf_S → Option (jf_S)) {lv0 : Nat} (hlr : lv0 + 1 ≤ lv) (hl0 : 4 ≤ lv) (hrc : ∀ a q, rc a = some q → jf_Mv l D E A fo pl yX1_parts cX1_parts 5 none lv0 [.ref (E.1 0), .int a.1, .int a.2.1, .int a.2.2.1] a.2.2.2 q) (x4 : Int32) (S : jf_S) (h : jf_parts_b38 F rc x4 S = some out) : jf_J p l e R s m args below meth c A D E fo pl 5 (jf_Qv below args s A D E fo pl out) 38 [(0, .ref (E.1 0)), (4, .int x4)] [] S := by
  intro H locs ls hP hS hl
  have hX0 := hX
  obtain ⟨hx, hb, hml, hown, hts, hlk, hr, hlv, hV, het⟩ := hX0
  unfold jf_parts_b38 at h
  refine lv_aload_n hx hb dX1_parts_38 rfl (lv_at hl 0 rfl) ?_
  refine lv_iconst hx hb dX1_parts_39 jx_ki1 ?_
  obtain ⟨S1, eS1, h⟩ := jx_nx_some h
  refine jf_put (S1 := S1) hx hb hts in_X1 tyX1_ok nmX1 hown hV hP hS (ci := 1) (k := 14) (by rw [eS1]; rfl) jf_o0 (by rw [eS1]; exact jf_s0_14 _) rfl (by decide) (hts _ q468) rfl rfl (tyX1_ok 14 (by decide)) jx_nz1 (Nat.le_of_ble_eq_true rfl) dX1_parts_40 (fun H locs hP hS => ?_)
  refine lv_aload_n hx hb dX1_parts_43 rfl (lv_at hl 0 rfl) ?_
  refine lv_iload hx hb dX1_parts_44 (lv_at hl 1 rfl) ?_
  obtain ⟨S2, eS2, h⟩ := jx_nx_some h
  refine jf_put (S1 := S2) hx hb hts in_X1 tyX1_ok nmX1 hown hV hP hS (ci := 1) (k := 13) (by rw [eS2]; rfl) jf_o0 (by rw [eS2]; exact jf_s0_13 _) rfl (by decide) (hts _ q467) rfl rfl (tyX1_ok 13 (by decide)) ⟨rfl, rfl⟩ (Nat.le_of_ble_eq_true rfl) dX1_parts_46 (fun H locs hP hS => ?_)
  exact jf_vret hx hb hr hlk hV hP hS h dX1_parts_49
theorem jf_parts_b90_ok {out : jf_S} (hX : jf_Ok RX1 p R s m args meth c A D E cX1_parts 5 none lv) (F : Nat) (rc : Int32 × Int32 × Int32 × jf_S → Option (jf_S)) {lv0 : Nat} (hlr : lv0 + 1 ≤ lv) (hl0 : 4 ≤ lv) (hrc : ∀ a q, rc a = some q → jf_Mv l D E A fo pl yX1_parts cX1_parts 5 none lv0 [.ref (E.1 0), .int a.1, .int a.2.1, .int a.2.2.1] a.2.2.2 q) {r53 : Int32 × Int32 × Int32 × Int32 × jf_S → Option (jf_S)} (hr53 : ∀ a, r53 a = some out → jf_J p l e R s m args below meth c A D E fo pl 5 (jf_Qv below args s A D E fo pl out) 53 [(0, .ref (E.1 0)), (1, .int a.1), (2, .int a.2.1), (3, .int a.2.2.1), (4, .int a.2.2.2.1)] [] a.2.2.2.2) (x1 : Int32) (x2 : Int32) (x3 : Int32) (x4 : Int32) (k0 : Int32) (k1 : Int32) (S : jf_S) (h : jf_parts_b90 F rc r53 x1 x2 x3 x4 k0 k1 S = some out) : jf_J p l e R s m args below meth c A D E fo pl 5 (jf_Qv below args s A D E fo pl out) 90 [(0, .ref (E.1 0)), (1, .int x1), (2, .int x2), (3, .int x3), (4, .int x4)] [.int k0, .int k1, .ref (E.1 0)] S := by
  intro H locs ls hP hS hl
  have hX0 := hX
  obtain ⟨hx, hb, hml, hown, hts, hlk, hr, hlv, hV, het⟩ := hX0
  unfold jf_parts_b90 at h
  refine lv_iload_n hx hb dX1_parts_90 rfl (lv_at hl 3 rfl) ?_
  obtain ⟨q1, eq1, h⟩ := jx_bi_some h
  refine jf_callV hx hb hml hown hts hlv hV (hrc _ _ eq1) jf_parts_g_X1 jf_parts_d (As := [.int k1, .int k0, .int x3]) hlr (Nat.le_of_ble_eq_true rfl) hP hS (ci := 1) jf_o0 rfl hl.1 rfl rfl (lv_room (Nat.le_of_ble_eq_true rfl)) dX1_parts_91 (fun H locs hP hS => ?_)
  obtain ⟨y2, ey2, h⟩ := jx_nx_some h
  refine lv_iinc (v := y2) (lv' := [(4, .int y2), (0, .ref (E.1 0)), (1, .int x1), (2, .int x2), (3, .int x3)]) hx hb dX1_parts_94 hl (k := 4) rfl (jx_inc jx_ki1 ey2) (Nat.le_of_ble_eq_true rfl) rfl (fun ls hl => ?_)
  refine lv_goto (tgt := 53) hx hb dX1_parts_97 rfl ?_
  exact hr53 _ h _ _ _ hP hS (lv_sub hl [1, 2, 3, 4, 0] rfl)
theorem jf_parts_L53_ok {out : jf_S} (hX : jf_Ok RX1 p R s m args meth c A D E cX1_parts 5 none lv) (F : Nat) (rc : Int32 × Int32 × Int32 × jf_S → Option (jf_S)) {lv0 : Nat} (hlr : lv0 + 1 ≤ lv) (hl0 : 4 ≤ lv) (hrc : ∀ a q, rc a = some q → jf_Mv l D E A fo pl yX1_parts cX1_parts 5 none lv0 [.ref (E.1 0), .int a.1, .int a.2.1, .int a.2.2.1] a.2.2.2 q) {r53 : Int32 × Int32 × Int32 × Int32 × jf_S → Option (jf_S)} (hr53 : ∀ a, r53 a = some out → jf_J p l e R s m args below meth c A D E fo pl 5 (jf_Qv below args s A D E fo pl out) 53 [(0, .ref (E.1 0)), (1, .int a.1), (2, .int a.2.1), (3, .int a.2.2.1), (4, .int a.2.2.2.1)] [] a.2.2.2.2) (x1 : Int32) (x2 : Int32) (x3 : Int32) (x4 : Int32) (S : jf_S) (h : jf_parts_L53 F rc r53 x1 x2 x3 x4 S = some out) : jf_J p l e R s m args below meth c A D E fo pl 5 (jf_Qv below args s A D E fo pl out) 53 [(0, .ref (E.1 0)), (1, .int x1), (2, .int x2), (3, .int x3), (4, .int x4)] [] S := by
  intro H locs ls hP hS hl
  have hX0 := hX
  obtain ⟨hx, hb, hml, hown, hts, hlk, hr, hlv, hV, het⟩ := hX0
  unfold jf_parts_L53 at h
  refine lv_iload hx hb dX1_parts_53 (lv_at hl 4 rfl) ?_
  refine lv_iload_n hx hb dX1_parts_55 rfl (lv_at hl 2 rfl) ?_
  refine lv_icmp_gt (tgt := 100) hx hb dX1_parts_56 rfl (fun c1 => ?_) (fun c1 => ?_)
  · rw [if_pos c1] at h
    exact jf_vret hx hb hr hlk hV hP hS h dX1_parts_100
  · rw [if_neg c1] at h
    refine lv_iload hx hb dX1_parts_59 (lv_at hl 4 rfl) ?_
    refine lv_iload_n hx hb dX1_parts_61 rfl (lv_at hl 3 rfl) ?_
    refine lv_icmp_ge (tgt := 100) hx hb dX1_parts_62 rfl (fun c2 => ?_) (fun c2 => ?_)
    · rw [if_pos c2] at h
      exact jf_vret hx hb hr hlk hV hP hS h dX1_parts_100
    · rw [if_neg c2] at h
      refine lv_aload_n hx hb dX1_parts_65 rfl (lv_at hl 0 rfl) ?_
      refine jf_get hx hb hts in_X1 hown hV hP (ci := 1) (k := 9) jf_o0 rfl (by decide) (hts _ q463) rfl rfl dX1_parts_66 ?_
      refine lv_iload_n hx hb dX1_parts_69 rfl (lv_at hl 1 rfl) ?_
      refine lv_iload hx hb dX1_parts_70 (lv_at hl 4 rfl) ?_
      obtain ⟨j3, ej3, bj3, h⟩ := jx_ga_some h
      obtain ⟨S4, eS4, h⟩ := jx_nx_some h
      refine jf_iast hx hb hV hP hS jf_a0_9 ej3 bj3 eS4 dX1_parts_72 (fun H locs hP hS => ?_)
      refine lv_aload_n hx hb dX1_parts_73 rfl (lv_at hl 0 rfl) ?_
      refine lv_iload_n hx hb dX1_parts_74 rfl (lv_at hl 1 rfl) ?_
      refine lv_iconst hx hb dX1_parts_75 jx_ki1 ?_
      refine lv_iadd hx hb dX1_parts_76 ?_
      refine lv_iload hx hb dX1_parts_77 (lv_at hl 4 rfl) ?_
      refine lv_iload_n hx hb dX1_parts_79 rfl (lv_at hl 2 rfl) ?_
      refine lv_icmp_ne (tgt := 89) hx hb dX1_parts_80 rfl (fun c5 => ?_) (fun c5 => ?_)
      · rw [if_neg c5] at h
        refine lv_iload_n hx hb dX1_parts_89 rfl (lv_at hl 2 rfl) ?_
        exact jf_parts_b90_ok hX F rc hlr hl0 hrc hr53 _ _ _ _ _ _ _ h _ _ _ hP hS hl
      · rw [if_pos c5] at h
        refine lv_iload_n hx hb dX1_parts_83 rfl (lv_at hl 2 rfl) ?_
        refine lv_iconst hx hb dX1_parts_84 jx_ki1 ?_
        refine lv_iadd hx hb dX1_parts_85 ?_
        refine lv_goto (tgt := 90) hx hb dX1_parts_86 rfl ?_
        exact jf_parts_b90_ok hX F rc hlr hl0 hrc hr53 _ _ _ _ _ _ _ h _ _ _ hP hS hl
theorem jf_parts_h53_ok {out : jf_S} (hX : jf_Ok RX1 p R s m args meth c A D E cX1_parts 5 none lv) (F : Nat) (rc : Int32 × Int32 × Int32 × jf_S → Option (jf_S)) {lv0 : Nat} (hlr : lv0 + 1 ≤ lv) (hl0 : 4 ≤ lv) (hrc : ∀ a q, rc a = some q → jf_Mv l D E A fo pl yX1_parts cX1_parts 5 none lv0 [.ref (E.1 0), .int a.1, .int a.2.1, .int a.2.2.1] a.2.2.2 q) (n : Nat) (a : Int32 × Int32 × Int32 × Int32 × jf_S) (h : jf_parts_h53 F rc n a = some out) : jf_J p l e R s m args below meth c A D E fo pl 5 (jf_Qv below args s A D E fo pl out) 53 [(0, .ref (E.1 0)), (1, .int a.1), (2, .int a.2.1), (3, .int a.2.2.1), (4, .int a.2.2.2.1)] [] a.2.2.2.2 :=
  jx_loop_ind (J := fun a => jf_J p l e R s m args below meth c A D E fo pl 5 (jf_Qv below args s A D E fo pl out) 53 [(0, .ref (E.1 0)), (1, .int a.1), (2, .int a.2.1), (3, .int a.2.2.1), (4, .int a.2.2.2.1)] [] a.2.2.2.2) (fun r hr a h => jf_parts_L53_ok hX F rc hlr hl0 hrc hr a.1 a.2.1 a.2.2.1 a.2.2.2.1 a.2.2.2.2 h) n a h
theorem jf_parts_B_ok {out : jf_S} (hX : jf_Ok RX1 p R s m args meth c A D E cX1_parts 5 none lv) (F : Nat) (rc : Int32 × Int32 × Int32 × jf_S → Option (jf_S)) {lv0 : Nat} (hlr : lv0 + 1 ≤ lv) (hl0 : 4 ≤ lv) (hrc : ∀ a q, rc a = some q → jf_Mv l D E A fo pl yX1_parts cX1_parts 5 none lv0 [.ref (E.1 0), .int a.1, .int a.2.1, .int a.2.2.1] a.2.2.2 q) (x1 : Int32) (x2 : Int32) (x3 : Int32) (S : jf_S) (h : jf_parts_B F rc x1 x2 x3 S = some out) : jf_J p l e R s m args below meth c A D E fo pl 5 (jf_Qv below args s A D E fo pl out) 0 [(0, .ref (E.1 0)), (1, .int x1), (2, .int x2), (3, .int x3)] [] S := by
  intro H locs ls hP hS hl
  have hX0 := hX
  obtain ⟨hx, hb, hml, hown, hts, hlk, hr, hlv, hV, het⟩ := hX0
  unfold jf_parts_B at h
  refine lv_iload_n hx hb dX1_parts_0 rfl (lv_at hl 1 rfl) ?_
  refine lv_aload_n hx hb dX1_parts_1 rfl (lv_at hl 0 rfl) ?_
  refine jf_get hx hb hts in_X1 hown hV hP (ci := 1) (k := 11) jf_o0 rfl (by decide) (hts _ q465) rfl rfl dX1_parts_2 ?_
  refine lv_icmp_ne (tgt := 50) hx hb dX1_parts_5 rfl (fun c1 => ?_) (fun c1 => ?_)
  · rw [if_neg c1] at h
    refine lv_iconst hx hb dX1_parts_50 jx_ki0 ?_
    obtain ⟨y2, ey2, h⟩ := jx_nx_some h
    refine jx_topi ey2 ?_
    refine lv_istore (lv' := [(4, .int y2), (0, .ref (E.1 0)), (1, .int x1), (2, .int x2), (3, .int x3)]) hx hb dX1_parts_51 hl (Nat.le_of_ble_eq_true rfl) rfl (fun ls hl => ?_)
    exact jf_parts_h53_ok hX F rc hlr hl0 hrc F _ h _ _ _ hP hS (lv_sub hl [1, 2, 3, 4, 0] rfl)
  · rw [if_pos c1] at h
    refine lv_aload_n hx hb dX1_parts_8 rfl (lv_at hl 0 rfl) ?_
    refine lv_iload_n hx hb dX1_parts_9 rfl (lv_at hl 2 rfl) ?_
    obtain ⟨q3, eq3, h⟩ := jx_bi_some h
    refine jf_callI hx hb hml hown hts hlv hV (jf_more_met eq3) jf_more_g_X1 jf_more_d (As := [.int x2]) (Nat.le_trans (Nat.le_of_ble_eq_true rfl) hl0) (Nat.le_of_ble_eq_true rfl) hP hS (ci := 1) jf_o0 rfl hl.1 rfl rfl (lv_room (Nat.le_of_ble_eq_true rfl)) dX1_parts_10 (fun H locs hP hS => ?_)
    obtain ⟨y4, ey4, h⟩ := jx_nx_some h
    refine jx_topi ey4 ?_
    refine lv_istore (lv' := [(4, .int y4), (0, .ref (E.1 0)), (1, .int x1), (2, .int x2), (3, .int x3)]) hx hb dX1_parts_13 hl (Nat.le_of_ble_eq_true rfl) rfl (fun ls hl => ?_)
    refine lv_iload hx hb dX1_parts_15 (lv_at hl 0 rfl) ?_
    refine lv_iconst hx hb dX1_parts_17 jx_kim1 ?_
    refine lv_icmp_eq (tgt := 37) hx hb dX1_parts_18 rfl (fun c5 => ?_) (fun c5 => ?_)
    · rw [if_pos c5] at h
      exact jf_vret hx hb hr hlk hV hP hS h dX1_parts_37
    · rw [if_neg c5] at h
      refine lv_aload_n hx hb dX1_parts_21 rfl (lv_at hl 1 rfl) ?_
      refine jf_get hx hb hts in_X1 hown hV hP (ci := 1) (k := 14) jf_o0 rfl (by decide) (hts _ q468) rfl rfl dX1_parts_22 ?_
      refine lv_if_eq (tgt := 38) hx hb dX1_parts_25 rfl (fun c6 => ?_) (fun c6 => ?_)
      · rw [if_pos c6] at h
        exact jf_parts_b38_ok hX F rc hlr hl0 hrc _ _ h _ _ _ hP hS (lv_sub hl [1, 0] rfl)
      · rw [if_neg c6] at h
        refine lv_iload hx hb dX1_parts_28 (lv_at hl 0 rfl) ?_
        refine lv_aload_n hx hb dX1_parts_30 rfl (lv_at hl 1 rfl) ?_
        refine jf_get hx hb hts in_X1 hown hV hP (ci := 1) (k := 13) jf_o0 rfl (by decide) (hts _ q467) rfl rfl dX1_parts_31 ?_
        refine lv_icmp_lt (tgt := 38) hx hb dX1_parts_34 rfl (fun c7 => ?_) (fun c7 => ?_)
        · rw [if_pos c7] at h
          exact jf_parts_b38_ok hX F rc hlr hl0 hrc _ _ h _ _ _ hP hS (lv_sub hl [1, 0] rfl)
        · rw [if_neg c7] at h
          exact jf_vret hx hb hr hlk hV hP hS h dX1_parts_37
theorem jf_parts_metr {l : Launch} {D : va_G} {E : jf_E} {A : Nat → Prop} {fo : Nat → Nat → Option Nat} {pl : va_W} {F : Nat} : ∀ (d : Nat) (a : Int32 × Int32 × Int32 × jf_S) (out : jf_S), jx_loop (fun rc (a : Int32 × Int32 × Int32 × jf_S) => jf_parts_B F rc a.1 a.2.1 a.2.2.1 a.2.2.2) d a = some out → jf_Mv l D E A fo pl yX1_parts cX1_parts 5 none (4 + d) [.ref (E.1 0), .int a.1, .int a.2.1, .int a.2.2.1] a.2.2.2 out := by
  intro d
  induction d with
  | zero => intro a out h; cases h
  | succ d ih =>
    intro a out h
    exact jf_Mv_of (own := RX1) ⟨by decide, rfl, Nat.le_of_ble_eq_true rfl⟩ (fun hX => jf_parts_B_ok hX F _ (Nat.le_refl _) (Nat.le_add_right _ _) (fun a q hq => ih a q hq) a.1 a.2.1 a.2.2.1 a.2.2.2 h)
theorem jf_parts_met {l : Launch} {D : va_G} {E : jf_E} {A : Nat → Prop} {fo : Nat → Nat → Option Nat} {pl : va_W} {F : Nat} {x1 : Int32} {x2 : Int32} {x3 : Int32} {S : jf_S} {out : jf_S} (h : jf_parts F 10 x1 x2 x3 S = some out) : jf_Mv l D E A fo pl yX1_parts cX1_parts 5 none 14 [.ref (E.1 0), .int x1, .int x2, .int x3] S out := jf_parts_metr 10 (x1, x2, x3, S) out h
end
