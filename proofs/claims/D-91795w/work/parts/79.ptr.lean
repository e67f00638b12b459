/-! the row is tried: both sides -/
set_option maxRecDepth 100000
/-- what the breaker bends at an order that is not the last -/
theorem jx_bat {F n b p h k k' pw hm i m d sd : Nat} {c : jf_S} {t : jm_S} {w : Nat → Int32} (hW : jz_W w n b p h) (hC : jx_C 3 c w n b p h) (hw : t.2.1 1 = w) (hp : pw < p) (hk : k < n) (hk' : k' < n) (hM : jx_M0 c t d sd) (hi : i + 1 < m) (hm4 : m ≤ 40) (e38 : t.1 38 = nI m) (ep : t.2.1 36 i = nI k) (ep' : t.2.1 36 (i + 1) = nI k') :
    ∃ c1 t1, jf_bends F (nI pw) (nI k) (nI k') c = some c1 ∧ jm_bendsAt F (nI pw) (nI i) (nI hm) t = some t1 ∧ jx_M0 c1 t1 d sd ∧ jx_f5 c c1 ∧ c1.1 = c.1 ∧ t1.1 = t.1 ∧ jm_k [] [16, 18] [] t t1 := by
  have hV : jz_V w n := hW.v
  obtain ⟨hn, h0, ho⟩ := id hV
  have hp6 : pw < 6 := by have := hW.1.2.2.1; omega
  have hk4 : k < 40 := by omega
  obtain ⟨rc, hrc, hrc2⟩ := hC.1.2 k hk
  have r0 := hrc2 0 (by decide) (by decide)
  obtain ⟨wd, hwd, e0⟩ := (ho k hk).wd
  have hwr : ∃ wd : Nat, wd < 10 ∧ rc 0 = nI wd := ⟨wd, hwd, r0.trans e0⟩
  obtain ⟨⟨hd, h8, h21, h12, h25⟩, m1, m2, m3, m4⟩ := id hM
  obtain ⟨ce, hce, e5⟩ := (ho k hk).ce
  have hP := hC.2.2.2.2.1 pw hp
  unfold jf_bends jm_bendsAt
  have hlast : ¬ nI i = nI m - nI 1 := by rw [pk_sub (by omega), nI_eq (by omega) (by omega)]; omega
  simp only [jx_ga_nI hk4 (show 40 < 2 ^ 31 by decide), hrc, Option.bind_some, jv_word_eq hwr, r0, jx_ga_nI (show i < 40 by omega) (show 40 < 2 ^ 31 by decide), ep, jx_nx, jm_wordOf_eq hk4, hw, e38, if_neg hlast, nI_add, jx_ga_nI (show i + 1 < 40 by omega) (show 40 < 2 ^ 31 by decide), ep', jm_of_eq hk4 (show 4 < 9 by decide) (show 4 ≠ 2 by decide), hrc2 4 (by decide) (by decide), jv_cell_eq hwr, hrc2 5 (by decide) (by decide), e5]
  have hb166 : ∀ x1 x2 : Int32, x1 = nI pw → ¬ jz_O w k 0 = nI 7 → ∀ t0 : jm_S, jm_bendsAt_b166 F (nI pw) (jz_O w k 0) (nI k') t0 = some t0 := fun _ _ _ h7 t0 => by unfold jm_bendsAt_b166; rw [if_neg h7]
  by_cases w3 : jz_O w k 0 = nI 3
  · have h7 : ¬ jz_O w k 0 = nI 7 := by rw [w3]; decide
    have hb124 : ∀ t0 : jm_S, jm_bendsAt_b124 F (nI pw) (nI k) (jz_O w k 0) (nI k') t0 = some t0 := fun t0 => by
      unfold jm_bendsAt_b124
      rw [if_neg (by rw [w3]; decide), if_neg (by rw [w3]; decide), hb166 (nI pw) 0 rfl h7]
    simp only [if_pos w3, jx_ge, hb124]
    obtain ⟨q, hq, e4⟩ := (ho k hk).pl (Or.inr (Or.inr (Or.inl w3)))
    by_cases hpl : jz_O w k 4 = nI (k + 1)
    · simp only [if_pos hpl]
      exact ⟨c, t, rfl, rfl, hM, jx_f5.rf, rfl, rfl, jm_k.rf⟩
    · simp only [if_neg hpl]
      obtain ⟨c1, t1, g1, g2, g3, g4, g5, g6, g7⟩ := jx_bif (F := F) (so := nI k' = jz_O w k 4) hW hC hw hp hk hrc2 w3 hM
      refine ⟨c1, t1, ?_, ?_, g3, g4, g5, g6, g7.wd (by simp) (by simp) (by simp)⟩
      · by_cases hs : nI k' = jz_O w k 4
        · rw [if_pos hs]; rw [jt_p hs] at g1; exact g1
        · rw [if_neg hs]; rw [jt_n hs] at g1; exact g1
      · unfold jm_bendsAt_b121
        by_cases hs : nI k' = jz_O w k 4
        · rw [if_pos hs]; rw [jt_p hs] at g2; rw [g2]; exact hb124 t1
        · rw [if_neg hs]; rw [jt_n hs] at g2; rw [g2]; exact hb124 t1
  · simp only [if_neg w3]
    unfold jm_bendsAt_b124
    by_cases h46 : jz_O w k 0 = nI 4 ∨ jz_O w k 0 = nI 6
    · have h7 : ¬ jz_O w k 0 = nI 7 := by rcases h46 with h | h <;> rw [h] <;> decide
      simp only [if_pos h46, if_neg (jn_m1 (show ce < 2 ^ 31 by omega))]
      have hbc := jm_bendsCell_eq (F := F) (pw := pw) (x := nI ce) (t := t) hp6
      rw [hw] at hbc
      have hcan : jf_can F (nI pw) (nI ce) c = some (jt ((w (392 + 2 * pw) >>> (nI ce &&& 31)) &&& nI 1 = nI 1), c) := by
        unfold jf_can
        rw [if_neg (jn_m1 (by omega)), jx_ga_nI hp6 (by decide), hP.1]
        by_cases hb : (w (392 + 2 * pw) >>> (nI ce &&& 31)) &&& nI 1 = nI 1
        · rw [if_pos hb, jt_p hb]
        · rw [if_neg hb, jt_n hb]
      have hb137 : jm_bendsAt_b137 F (nI pw) (nI k) (jz_O w k 0) (nI k') t = if jt ((w (392 + 2 * pw) >>> (nI ce &&& 31)) &&& nI 1 = nI 1) = 0 then some t else some (jm_setA t 16 (upd (t.2.1 16) ce (nI k'))) := by
        unfold jm_bendsAt_b137
        simp only [jm_of_eq hk4 (show 5 < 9 by decide) (show 5 ≠ 2 by decide), hw, e5, Option.bind_some, hbc, jx_ga_nI hce (show 16 < 2 ^ 31 by decide), jx_nx, hb166 (nI pw) 0 rfl h7]
      have htw : (if jz_O w k 0 = nI 4 then jm_bendsAt_b137 F (nI pw) (nI k) (jz_O w k 0) (nI k') t else if jz_O w k 0 = nI 6 then jm_bendsAt_b137 F (nI pw) (nI k) (jz_O w k 0) (nI k') t else jm_bendsAt_b166 F (nI pw) (jz_O w k 0) (nI k') t) = jm_bendsAt_b137 F (nI pw) (nI k) (jz_O w k 0) (nI k') t := by
        rcases h46 with h | h
        · rw [if_pos h]
        · rw [if_neg (by rw [h]; decide), if_pos h]
      rw [htw, hb137, hcan]
      simp only [Option.bind_some, jx_ga_nI hce (show 16 < 2 ^ 31 by decide)]
      by_cases hb : (w (392 + 2 * pw) >>> (nI ce &&& 31)) &&& nI 1 = nI 1
      · simp only [jt_if hb]
        exact ⟨_, _, rfl, rfl, ⟨⟨hd, h8, h21, h12, h25⟩, jx_upd_cong m1, m2, m3, m4⟩, jx_f5.rf.A, rfl, rfl, jm_k.rf.setA (by simp)⟩
      · simp only [jt_ifn hb]
        exact ⟨c, t, rfl, rfl, hM, jx_f5.rf, rfl, rfl, jm_k.rf⟩
    · have h4 : ¬ jz_O w k 0 = nI 4 := fun z => h46 (Or.inl z)
      have h6 : ¬ jz_O w k 0 = nI 6 := fun z => h46 (Or.inr z)
      simp only [if_neg h46, if_neg h4, if_neg h6, if_true]
      unfold jm_bendsAt_b166
      by_cases w7 : jz_O w k 0 = nI 7
      · simp only [if_pos w7, h8, h21, jn_le0 (show d < 2 ^ 31 by omega), jm_bendsRow_eq hp6, Option.bind_some, hw, jx_ga_nI hp6 (show 6 < 2 ^ 31 by decide), hP.2]
        have hrb := jz_row_b hW hp
        by_cases hd0 : d = 0
        · simp only [if_pos hd0]
          refine ⟨c, t, rfl, ?_, hM, jx_f5.rf, rfl, rfl, jm_k.rf⟩
          by_cases hrow : jz_rw w pw
          · rw [jt_if hrow]
          · rw [jt_ifn hrow]
        · simp only [if_neg hd0]
          by_cases hrow : jz_rw w pw
          · have e1 : ¬ w (392 + 2 * pw + 1) = 0 := fun z => (hrb.eq0.mp z) hrow
            have hd1 : d - 1 < 8 := by omega
            simp only [jt_if hrow, if_neg e1, pk_sub (show 1 ≤ d by omega), jx_ga_nI hd1 (show 8 < 2 ^ 31 by decide)]
            refine ⟨_, _, rfl, rfl, ⟨⟨hd, h8, h21, h12, h25⟩, m1, m2, ?_, m4⟩, jx_f5.rf.A, rfl, rfl, jm_k.rf.setA (by simp)⟩
            intro j hj
            exact ⟨jx_upd_cong (fun q hq => (m3 q hq).1) j hj, (m3 j hj).2.1, (m3 j hj).2.2⟩
          · have e1 : w (392 + 2 * pw + 1) = 0 := hrb.eq0.mpr hrow
            simp only [jt_ifn hrow, if_pos e1]
            exact ⟨c, t, rfl, rfl, hM, jx_f5.rf, rfl, rfl, jm_k.rf⟩
      · simp only [if_neg w7]
        exact ⟨c, t, rfl, rfl, hM, jx_f5.rf, rfl, rfl, jm_k.rf⟩
