/-! runs: one order, both sides, and the whole run -/
set_option maxRecDepth 100000
def jx_c2 (c1 : jf_S) (k st : Nat) (to : Int32) : jf_S := jf_setI (jf_setI (jf_setA c1 5 6 (upd (c1.2.2.1 5 6) st (nI k))) 5 10 (nI (st + 1))) 5 9 to
def jx_t2 (t1 : jm_S) (k st : Nat) : jm_S := jm_setI (jm_setA t1 22 (upd (t1.2.1 22) st (nI k))) 24 (nI (st + 1))
theorem jk_step_in {F n k st : Nat} {c c1 : jf_S} {r : jo_R} {to : Int32} (h9 : c.1 5 9 = nI k) (hn : n ≤ 40) (h13 : c.1 3 13 = nI n) (hk : k < n) (hr : c.2.2.2.2 3 k = some r) (hd : jv_does F r (nI k) c = some (to, c1)) : jk_step F c = if c1.1 5 14 = nI 4 then jk_step_b64 F (nI k) to c1 else if c1.1 5 14 = 0 then jk_step_b64 F (nI k) to c1 else jk_step_b84 F to c1 := by
  unfold jk_step
  rw [h9, h13, if_neg (nI_pos (by omega)), if_pos (nI_lt hk (by omega))]
  simp only [jx_nx, jx_ga_nI (show k < 40 by omega) (show 40 < 2 ^ 31 by decide), hr, Option.bind_some, hd]
theorem jk_step_go {F n k st : Nat} {c c1 : jf_S} {r : jo_R} {to : Int32} (h9 : c.1 5 9 = nI k) (hn : n ≤ 40) (h13 : c.1 3 13 = nI n) (hk : k < n) (hr : c.2.2.2.2 3 k = some r) (hd : jv_does F r (nI k) c = some (to, c1)) (h14 : c1.1 5 14 = nI 4) (h10 : c1.1 5 10 = nI st) (hst : st < 300) : jk_step F c = some (nI 1, jx_c2 c1 k st to) := by
  rw [jk_step_in (st := st) h9 hn h13 hk hr hd, if_pos h14]
  unfold jk_step_b64 jk_step_b84 jk_step_b89
  simp only [jx_nx, h10, jx_ga_nI hst (show 300 < 2 ^ 31 by decide), jf_A0, nI_add]
  exact if_pos h14
theorem jk_step_stop {F n k st : Nat} {c c1 : jf_S} {r : jo_R} {to : Int32} (h9 : c.1 5 9 = nI k) (hn : n ≤ 40) (h13 : c.1 3 13 = nI n) (hk : k < n) (hr : c.2.2.2.2 3 k = some r) (hd : jv_does F r (nI k) c = some (to, c1)) (h14 : c1.1 5 14 = nI 0) (h10 : c1.1 5 10 = nI st) (hst : st < 300) : jk_step F c = some (nI 0, jx_c2 c1 k st to) := by
  have h14' : ¬ c1.1 5 14 = nI 4 := by rw [h14]; decide
  rw [jk_step_in (st := st) h9 hn h13 hk hr hd, if_neg h14', if_pos (show c1.1 5 14 = 0 from h14)]
  unfold jk_step_b64 jk_step_b84 jk_step_b89
  simp only [jx_nx, h10, jx_ga_nI hst (show 300 < 2 ^ 31 by decide), jf_A0, nI_add]
  exact if_neg h14'
theorem jk_step_end {F n k : Nat} {c c1 : jf_S} {r : jo_R} {to : Int32} (h9 : c.1 5 9 = nI k) (hn : n ≤ 40) (h13 : c.1 3 13 = nI n) (hk : k < n) (hr : c.2.2.2.2 3 k = some r) (hd : jv_does F r (nI k) c = some (to, c1)) (h14 : ¬ c1.1 5 14 = nI 4) (h0 : ¬ c1.1 5 14 = 0) : jk_step F c = some (nI 0, jf_setI c1 5 9 to) := by
  rw [jk_step_in (st := 0) h9 hn h13 hk hr hd, if_neg h14, if_neg h0]
  unfold jk_step_b84 jk_step_b89
  simp only [jx_nx]
  exact if_neg h14
theorem jk_step_out {F n : Nat} {c : jf_S} (hn : n ≤ 40) (h13 : c.1 3 13 = nI n) (hk : ¬ ∃ k : Nat, k < n ∧ c.1 5 9 = nI k) : jk_step F c = some (nI 0, jf_setI c 5 14 (nI 3)) := by
  have hb : jk_step_b21 F c = some (nI 0, jf_setI c 5 14 (nI 3)) := by
    unfold jk_step_b21 jk_step_b89
    rw [jk_trap_eq]
    rfl
  unfold jk_step
  rw [h13]
  rcases pk_ix (c.1 5 9) (show n < 2 ^ 31 by omega) with h | h | h
  · rw [if_pos h, hb]
  · by_cases h2 : c.1 5 9 < 0
    · rw [if_pos h2, hb]
    · rw [if_neg h2, if_neg (fun z => by
        rw [Int32.lt_iff_toInt_lt] at z
        rw [Int32.le_iff_toInt_le] at h
        omega), hb]
  · exact absurd h hk
theorem jm_b242_eq {F n k st : Nat} {t1 t3 : jm_S} {x1 x2 to : Int32} {r53 : Int32 × Int32 × jm_S → Option jm_S} (hn : n ≤ 40) (hk : k < n) (h24 : t1.1 24 = nI st) (hst : st < 300) (hd : jm_does F (nI k) (jx_t2 t1 k st) = some (to, t3)) : jm_runs_b242 F r53 x1 x2 (nI k) t1 = if jz_O (t3.2.1 1) k 0 = nI 9 then some (jm_setI (jm_setI t3 27 to) 26 (nI 0)) else r53 (x1, x2, jm_setI t3 27 to) := by
  unfold jm_runs_b242
  have hd' : jm_does F (nI k) (jm_setI (jm_setA t1 22 (upd (t1.2.1 22) st (nI k))) 24 (nI (st + 1))) = some (to, t3) := hd
  simp only [jx_nx, h24, jx_ga_nI hst (show 300 < 2 ^ 31 by decide), jm_A0, nI_add, hd', Option.bind_some, jm_wordOf_eq (show k < 40 by omega), jm_I2]
/-- what the machines still agree on behind one more order -/
theorem jx_M_next {c c1 : jf_S} {t t3 : jm_S} {d st sd d' sd' k : Nat} {to : Int32} (hM : jx_M c t d st sd) (hst : st < 300) (h0 : jx_M0 c1 t3 d' sd') (hsd : sd' ≤ st + 1) (h11 : c1.1 5 11 = t3.1 28) (h13 : c1.1 5 13 = t3.1 29) (h15 : c1.1 5 15 = t3.1 30) (h16 : c1.1 5 16 = t3.1 31) (h17 : c1.1 5 17 + nI 1 = t3.1 32) (h6 : c1.2.2.1 5 6 = c.2.2.1 5 6) (h22 : t3.2.1 22 = upd (t.2.1 22) st (nI k)) (h24 : t3.1 24 = nI (st + 1)) : jx_M (jx_c2 c1 k st to) (jm_setI t3 27 to) d' (st + 1) sd' := by
  obtain ⟨⟨a0, a1, a2, a3, a4⟩, b1, b2, b3, b4⟩ := h0
  refine ⟨⟨⟨a0, a1, a2, a3, a4⟩, b1, b2, b3, b4⟩, ⟨by omega, hsd, rfl, h24⟩, ⟨rfl, h11, h13, h15, h16, h17⟩, ?_⟩
  intro i hi
  show upd (c1.2.2.1 5 6) st (nI k) i = t3.2.1 22 i
  rw [h6, h22]
  exact jx_upd_snoc hM.2.2.2 i hi
noncomputable def jx_tL (t : jm_S) (tk : Int32) (bad : Prop) : jm_S := jm_setI (@ite _ (bad ∧ t.1 32 = 0) (Classical.propDecidable _) (jm_setI (jm_setI t 29 (t.1 29 + nI 1)) 32 (t.1 29 + nI 1)) (jm_setI t 29 (t.1 29 + nI 1))) 28 (t.1 28 + tk)
theorem jm_b177_eq {F n k g : Nat} {t : jm_S} {x1 x2 : Int32} {bad : Prop} {w : Nat → Int32} {r53 : Int32 × Int32 × jm_S → Option jm_S} (hn : n ≤ 40) (hk : k < n) (hw : t.2.1 1 = w) (hg : g < 4) (h2 : w (8 + 9 * k + 2) = nI g) (h4 : w 4 = 0) : jm_runs_b177 F r53 x1 x2 (nI k) (jt bad) t = jm_runs_b242 F r53 x1 x2 (nI k) (jx_tL t (w (4 + g)) bad) := by
  have hb : ∀ t1 : jm_S, t1.2 = t.2 → t1.1 28 = t.1 28 → jm_runs_b207 F r53 x1 x2 (nI k) t1 = jm_runs_b242 F r53 x1 x2 (nI k) (jm_setI t1 28 (t.1 28 + w (4 + g))) := by
    intro t1 e1 e28
    unfold jm_runs_b207 jm_runs_b238
    simp only [jm_of_2 (show k < 40 by omega), Option.bind_some, e1, hw, h2, jn_eq0 (show g < 2 ^ 31 by omega), nI_add, jx_ga_nI (show 4 + g < 412 by omega) (show 412 < 2 ^ 31 by decide), jx_nx, e28]
    by_cases g0 : g = 0
    · rw [if_pos g0, g0, show 4 + 0 = 4 from rfl, h4]
      rfl
    · rw [if_neg g0]
  unfold jm_runs_b177 jx_tL
  simp only [jx_nx]
  by_cases hbad : bad
  · rw [jt_if hbad]
    by_cases h32 : t.1 32 = 0
    · rw [if_pos (show (jm_setI t 29 (t.1 29 + nI 1)).1 32 = 0 from h32), if_pos ⟨hbad, h32⟩]
      exact hb _ rfl rfl
    · rw [if_neg (show ¬ (jm_setI t 29 (t.1 29 + nI 1)).1 32 = 0 from h32), if_neg (fun z => h32 z.2)]
      exact hb _ rfl rfl
  · rw [jt_ifn hbad, if_neg (fun z => hbad z.1)]
    exact hb _ rfl rfl
theorem jx_tL_2 {t : jm_S} {tk : Int32} {bad : Prop} : (jx_tL t tk bad).2 = t.2 := by
  unfold jx_tL
  by_cases h : bad ∧ t.1 32 = 0
  · rw [if_pos h]; rfl
  · rw [if_neg h]; rfl
theorem jx_tL_I {t : jm_S} {tk : Int32} {bad : Prop} {k : Nat} (hk : k ≠ 28 ∧ k ≠ 29 ∧ k ≠ 32) : (jx_tL t tk bad).1 k = t.1 k := by
  unfold jx_tL
  rw [jm_In hk.1]
  by_cases h : bad ∧ t.1 32 = 0
  · rw [if_pos h, jm_In hk.2.2, jm_In hk.2.1]
  · rw [if_neg h, jm_In hk.2.1]
theorem jx_tL_28 {t : jm_S} {tk : Int32} {bad : Prop} : (jx_tL t tk bad).1 28 = t.1 28 + tk := jm_Ie
theorem jx_tL_29 {t : jm_S} {tk : Int32} {bad : Prop} : (jx_tL t tk bad).1 29 = t.1 29 + nI 1 := by
  unfold jx_tL
  rw [jm_In (by decide)]
  by_cases h : bad ∧ t.1 32 = 0
  · rw [if_pos h]; rfl
  · rw [if_neg h]; rfl
theorem jx_p1 {x : Int32} : x + nI 1 = 0 ↔ x = (-1 : Int32) := by
  constructor
  · intro h
    have h2 : x + nI 1 + (-1) = 0 + (-1 : Int32) := by rw [h]
    rw [Int32.add_assoc, show nI 1 + (-1 : Int32) = 0 by decide, Int32.add_zero, Int32.zero_add] at h2
    exact h2
  · intro h; rw [h]; decide
theorem jx_tL_32 {t : jm_S} {c : jf_S} {tk : Int32} {ok : Prop} (h17 : c.1 5 17 + nI 1 = t.1 32) (h13 : c.1 5 13 = t.1 29) : (jx_fb ok c).1 5 17 + nI 1 = (jx_tL t tk (¬ ok)).1 32 := by
  unfold jx_tL jx_fb
  rw [jm_In (by decide)]
  by_cases h : ¬ ok ∧ c.1 5 17 = (-1 : Int32)
  · rw [if_pos h, if_pos ⟨h.1, by rw [← h17]; exact jx_p1.mpr h.2⟩, jf_Ie, jm_Ie, h13]
  · rw [if_neg h, if_neg (fun z => h ⟨z.1, jx_p1.mp (h17.trans z.2)⟩), jm_In (by decide), h17]
/-- one jump of a run -/
theorem jx_bodyJ {F n b p h d st sd k : Nat} {c : jf_S} {t : jm_S} {w : Nat → Int32} {x1 x2 : Int32} (hR : jx_R c t w n b p h) (hM : jx_M c t d st sd) (hst : st < 300) (h14 : c.1 5 14 = nI 4) (h18 : c.1 5 18 = x2) (hk : k < n) (h9 : c.1 5 9 = nI k) (hj : jz_j (jz_O w) k) :
    (∃ c' t', jk_step F c = some (nI 0, c') ∧ (∀ r53, jm_runs_b61 F r53 x1 x2 t = some t') ∧ jx_E c' t' ∧ jx_f5 c c' ∧ jm_k jx_tI jx_tA [] t t') ∨
    (∃ c' t' d' sd', jk_step F c = some (nI 1, c') ∧ (∀ r53, jm_runs_b61 F r53 x1 x2 t = r53 (x1, x2, t')) ∧ jx_M c' t' d' (st + 1) sd' ∧ jx_f5 c c' ∧ jm_k jx_tI jx_tA [] t t' ∧ c'.1 5 14 = nI 4 ∧ c'.1 5 18 = x2) := by
  obtain ⟨hW, hC, hL, hw, hlt⟩ := id hR
  have hV : jz_V w n := hW.v
  obtain ⟨hn, hw0, ho⟩ := id hV
  have hVt : jz_V (t.2.1 1) n := by rw [hw]; exact hV
  obtain ⟨hM0, ⟨hst3, hsd, h10, h24⟩, ⟨e9, e11, e13, e15, e16, e17⟩, e6⟩ := id hM
  obtain ⟨⟨hd, h8, h21, h12, h25⟩, m1, m2, m3, m4⟩ := id hM0
  have h13 : c.1 3 13 = nI n := hC.1.1
  have h4 : w 4 = 0 := hW.2.2.2.2.1
  have hk4 : k < 40 := by omega
  have h27 : t.1 27 = nI k := e9.symm.trans h9
  obtain ⟨rc, hrc, hrc2⟩ := hC.1.2 k hk
  obtain ⟨ce, hce, e5⟩ := (ho k hk).ce
  have hcl : jz_cl (jz_O w) k = ce := by unfold jz_cl; rw [e5, nI_clamp (by omega)]
  obtain ⟨g, hg, h2, hl⟩ := hlt k hk hj
  obtain ⟨d1, d2, d3⟩ := jv_does_j (F := F) hV hC hL hk hrc2 hj hd h8 hg h2 hce e5 h14
  have htr := jm_isTrapped_eq (F := F) hVt hk hd h21
  rw [hw] at htr
  have hjt := jm_isJump_eq (F := F) (S := t) hk4
  rw [hw] at hjt
  have hTr : jx_Tr w (t.2.1 16) k d ↔ ((jz_O w k 0 = nI 6 ∧ d = 8) ∨ (jz_O w k 0 = nI 7 ∧ d = 0)) := by
    constructor
    · rintro (z | ⟨z | z, z2⟩ | z)
      · rcases hj with h | h | h <;> rw [z.1] at h <;> exact absurd h (by decide)
      · rcases hj with h | h | h <;> rw [z] at h <;> exact absurd h (by decide)
      · exact Or.inl ⟨z, z2⟩
      · exact Or.inr z
    · rintro (z | z)
      · exact Or.inr (Or.inl ⟨Or.inr z.1, z.2⟩)
      · exact Or.inr (Or.inr z)
  by_cases hT : (jz_O w k 0 = nI 6 ∧ d = 8) ∨ (jz_O w k 0 = nI 7 ∧ d = 0)
  · left
    refine ⟨_, jm_setI t 26 (nI 3), jk_step_end h9 hn h13 hk hrc (d1 hT) (by show ¬ nI 3 = nI 4; decide) (by show ¬ nI 3 = (0 : Int32); decide), ?_, ⟨⟨d, st, sd, ?_⟩, rfl⟩, jx_f5.rf.I.I, jm_k.rf.setI (by decide)⟩
    · intro r53
      unfold jm_runs_b61
      rw [h24, if_neg (fun z => by rw [nI_eq (by omega) (by decide)] at z; omega), h27, htr, Option.bind_some]
      show (if jt _ = 0 then _ else _) = _
      rw [jt_if (hTr.mpr hT)]
      rfl
    · exact ⟨hM0, ⟨hst3, hsd, h10, h24⟩, ⟨e9, e11, e13, e15, e16, e17⟩, e6⟩
  · have h7 : jz_O w k 0 = nI 7 → 0 < d := fun z => Nat.pos_of_ne_zero (fun e => hT (Or.inr ⟨z, e⟩))
    have hto : jx_to w (t.2.1 16) (t.2.1 18) k d = jx_to w (c.2.2.1 5 1) (c.2.2.1 5 3) k d := by
      unfold jx_to
      by_cases w7 : jz_O w k 0 = nI 7
      · rw [if_pos w7, if_pos w7]; exact ((m3 (d - 1) (by have := h7 w7; omega)).1).symm
      · rw [if_neg w7, if_neg w7, hcl]; exact (m1 ce hce).symm
    have hld : jx_ld w (t.2.1 17) (t.2.1 19) k d = jx_ld w (c.2.2.1 5 2) (c.2.2.1 5 5) k d := by
      unfold jx_ld
      by_cases w7 : jz_O w k 0 = nI 7
      · rw [if_pos w7, if_pos w7]; exact ((m3 (d - 1) (by have := h7 w7; omega)).2.1).symm
      · rw [if_neg w7, if_neg w7, hcl]; exact (m2 ce hce).symm
    have hok : jx_ok n (jz_O w) k g (t.2.1 20 (d - 1)) (jx_to w (t.2.1 16) (t.2.1 18) k d) ↔ jx_ok n (jz_O w) k g (c.2.2.1 5 4 (d - 1)) (jx_to w (c.2.2.1 5 1) (c.2.2.1 5 3) k d) := by
      rw [hto]
      unfold jx_ok
      by_cases w7 : jz_O w k 0 = nI 7
      · rw [(m3 (d - 1) (by have := h7 w7; omega)).2.2]
      · constructor
        · rintro (z | z | z)
          · exact Or.inl z
          · exact absurd z.1 w7
          · exact Or.inr (Or.inr z)
        · rintro (z | z | z)
          · exact Or.inl z
          · exact absurd z.1 w7
          · exact Or.inr (Or.inr z)
    have hgd := jm_isGuarded_eq (F := F) (t := t) (g := g) hVt hk hd h21 (by rw [hw]; exact h7) hg (by rw [hw]; exact h2) (by rw [hw]; exact hl)
    rw [hw] at hgd
    have hland := fun (t0 : jm_S) (e1 : t0.2 = t.2) (e21 : t0.1 21 = nI d) => jm_landingOf_eq (F := F) (t := t0) (n := n) (k := k) (d := d) (by rw [e1]; exact hVt) hk hd e21 (by rw [e1, hw]; exact h7)
    by_cases hgo : jx_ok n (jz_O w) k g (c.2.2.1 5 4 (d - 1)) (jx_to w (c.2.2.1 5 1) (c.2.2.1 5 3) k d) ∨ c.1 5 18 = 0
    · right
      have hstart : ∀ r53, jm_runs_b61 F r53 x1 x2 t = jm_runs_b242 F r53 x1 x2 (nI k) (jx_tL t (w (4 + g)) (¬ jx_ok n (jz_O w) k g (t.2.1 20 (d - 1)) (jx_to w (t.2.1 16) (t.2.1 18) k d))) := by
        intro r53
        unfold jm_runs_b61
        rw [h24, if_neg (fun z => by rw [nI_eq (by omega) (by decide)] at z; omega), h27, htr, Option.bind_some]
        show (if jt _ = 0 then _ else _) = _
        rw [jt_ifn (fun z => hT (hTr.mp z))]
        simp only [jx_nx, h27, hjt, Option.bind_some]
        rw [jt_if hj, hgd, Option.bind_some]
        show (if jt _ = 0 then _ else _) = _
        by_cases hp : jx_ok n (jz_O w) k g (t.2.1 20 (d - 1)) (jx_to w (t.2.1 16) (t.2.1 18) k d)
        · rw [jt_ifn (fun z => z hp)]
          exact jm_b177_eq hn hk hw hg h2 h4
        · rw [jt_if hp]
          have hx2 : x2 = 0 := by
            rcases hgo with z | z
            · exact absurd (hok.mpr z) hp
            · rw [← h18]; exact z
          rw [if_pos hx2]
          exact jm_b177_eq hn hk hw hg h2 h4
      -- the states behind the landing
      have hd2 := d2 hT hgo
      have hfbp : (¬ jx_ok n (jz_O w) k g (t.2.1 20 (d - 1)) (jx_to w (t.2.1 16) (t.2.1 18) k d)) = ¬ jx_ok n (jz_O w) k g (c.2.2.1 5 4 (d - 1)) (jx_to w (c.2.2.1 5 1) (c.2.2.1 5 3) k d) := propext (not_congr hok)
      rw [hfbp] at hstart
      generalize hokp : jx_ok n (jz_O w) k g (c.2.2.1 5 4 (d - 1)) (jx_to w (c.2.2.1 5 1) (c.2.2.1 5 3) k d) = okp at hd2 hstart
      have hcL2 : (jx_cL (jx_fb okp c) (w (4 + g))).2 = c.2 := jx_fb_2
      have hcLI : ∀ q, q ≠ 17 → q ≠ 13 → q ≠ 11 → (jx_cL (jx_fb okp c) (w (4 + g))).1 5 q = c.1 5 q := fun q q1 q2 q3 => by
        unfold jx_cL
        rw [jf_In (by omega), jf_In (by omega), jx_fb_I q1]
      have hcL11 : (jx_cL (jx_fb okp c) (w (4 + g))).1 5 11 = c.1 5 11 + w (4 + g) := by
        unfold jx_cL
        rw [jf_Ie, jx_fb_I (by decide)]
      have hcL13 : (jx_cL (jx_fb okp c) (w (4 + g))).1 5 13 = c.1 5 13 + nI 1 := by
        unfold jx_cL
        rw [jf_In (by decide), jf_Ie, jx_fb_I (by decide)]
      have hcL17 : (jx_cL (jx_fb okp c) (w (4 + g))).1 5 17 = (jx_fb okp c).1 5 17 := by
        unfold jx_cL
        rw [jf_In (by decide), jf_In (by decide)]
      have hcLf : jx_f5 c (jx_cL (jx_fb okp c) (w (4 + g))) := by
        unfold jx_cL
        have : jx_f5 c (jx_fb okp c) := by
          unfold jx_fb
          by_cases h : ¬ okp ∧ c.1 5 17 = (-1 : Int32)
          · rw [if_pos h]; exact jx_f5.rf.I
          · rw [if_neg h]; exact jx_f5.rf
        exact this.I.I
      have ht1 : (jx_t2 (jx_tL t (w (4 + g)) (¬ okp)) k st).2.1 1 = w := by
        show (jx_tL t (w (4 + g)) (¬ okp)).2.1 1 = w
        rw [jx_tL_2]; exact hw
      have htA : ∀ q, q ≠ 22 → (jx_t2 (jx_tL t (w (4 + g)) (¬ okp)) k st).2.1 q = t.2.1 q := fun q hq => by
        show (jm_setA (jx_tL t (w (4 + g)) (¬ okp)) 22 _).2.1 q = t.2.1 q
        rw [jm_An hq, jx_tL_2]
      have ht22 : (jx_t2 (jx_tL t (w (4 + g)) (¬ okp)) k st).2.1 22 = upd (t.2.1 22) st (nI k) := by
        show (jm_setA (jx_tL t (w (4 + g)) (¬ okp)) 22 _).2.1 22 = _
        rw [jm_Ae, jx_tL_2]
      have htI : ∀ q, q ≠ 24 → q ≠ 28 ∧ q ≠ 29 ∧ q ≠ 32 → (jx_t2 (jx_tL t (w (4 + g)) (¬ okp)) k st).1 q = t.1 q := fun q q1 q2 => by
        show (jm_setI _ 24 _).1 q = t.1 q
        rw [jm_In q1, jm_A0, jx_tL_I q2]
      have ht24 : (jx_tL t (w (4 + g)) (¬ okp)).1 24 = nI st := (jx_tL_I (by decide)).trans h24
      have hkT : jm_k jx_tI jx_tA [] t (jx_t2 (jx_tL t (w (4 + g)) (¬ okp)) k st) := by
        refine jm_k.setI (jm_k.setA ⟨fun i hi => jx_tL_I ⟨fun e => hi (by rw [e]; decide), fun e => hi (by rw [e]; decide), fun e => hi (by rw [e]; decide)⟩, fun i _ => by rw [jx_tL_2], fun i _ => by rw [jx_tL_2]⟩ (by decide)) (by decide)
      have hM1 : jx_M0 (jx_cL (jx_fb okp c) (w (4 + g))) (jx_t2 (jx_tL t (w (4 + g)) (¬ okp)) k st) d sd := (hM0.kc (hcLI 8 (by decide) (by decide) (by decide)) (hcLI 12 (by decide) (by decide) (by decide)) (by rw [hcL2])).kt (htI 21 (by decide) (by decide)) (htI 25 (by decide) (by decide)) (fun i h1 h2 h3 => htA i h3)
      have hV2 : jz_V ((jx_t2 (jx_tL t (w (4 + g)) (¬ okp)) k st).2.1 1) n := by rw [ht1]; exact hV
      have hfin : ∀ (c1 : jf_S) (t3 : jm_S) (d' : Nat), jx_cJ (jz_O w) k d (jx_cL (jx_fb okp c) (w (4 + g))) = c1 → jm_does F (nI k) (jx_t2 (jx_tL t (w (4 + g)) (¬ okp)) k st) = some (jx_to w (c.2.2.1 5 1) (c.2.2.1 5 3) k d, t3) → jx_M0 c1 t3 d' sd → (∀ q, 9 ≤ q → c1.1 5 q = (jx_cL (jx_fb okp c) (w (4 + g))).1 5 q) → c1.2.2.1 5 6 = c.2.2.1 5 6 → jm_k [21] [18, 19, 20] [] (jx_t2 (jx_tL t (w (4 + g)) (¬ okp)) k st) t3 → jx_f5 (jx_cL (jx_fb okp c) (w (4 + g))) c1 →
          (∃ c' t' d' sd', jk_step F c = some (nI 1, c') ∧ (∀ r53, jm_runs_b61 F r53 x1 x2 t = r53 (x1, x2, t')) ∧ jx_M c' t' d' (st + 1) sd' ∧ jx_f5 c c' ∧ jm_k jx_tI jx_tA [] t t' ∧ c'.1 5 14 = nI 4 ∧ c'.1 5 18 = x2) := by
        intro c1 t3 d' ec1 hdt hMc hc1 h61 ht3 hf
        rw [ec1] at hd2
        have e14 : c1.1 5 14 = nI 4 := (hc1 14 (by decide)).trans ((hcLI 14 (by decide) (by decide) (by decide)).trans h14)
        have e10 : c1.1 5 10 = nI st := (hc1 10 (by decide)).trans ((hcLI 10 (by decide) (by decide) (by decide)).trans h10)
        have et1 : t3.2.1 1 = w := (ht3.2.1 1 (by decide)).trans ht1
        have h9w : ¬ jz_O w k 0 = nI 9 := by rcases hj with h | h | h <;> rw [h] <;> decide
        refine ⟨_, _, d', sd, jk_step_go h9 hn h13 hk hrc hd2 e14 e10 hst, ?_, jx_M_next hM hst hMc (by omega) ?_ ?_ ?_ ?_ ?_ h61 ((ht3.2.1 22 (by decide)).trans ht22) ((ht3.1 24 (by decide)).trans rfl), (hcLf.trans hf).A.I.I, ?_, e14, ?_⟩
        · intro r53
          rw [hstart, jm_b242_eq hn hk ht24 hst hdt, et1, if_neg h9w]
        · rw [hc1 11 (by decide), hcL11, ht3.1 28 (by decide), e11]
          exact (jx_tL_28 (bad := ¬ okp)).symm
        · rw [hc1 13 (by decide), hcL13, ht3.1 29 (by decide), e13]
          exact (jx_tL_29 (tk := w (4 + g)) (bad := ¬ okp)).symm
        · rw [hc1 15 (by decide), hcLI 15 (by decide) (by decide) (by decide), ht3.1 30 (by decide), htI 30 (by decide) (by decide), e15]
        · rw [hc1 16 (by decide), hcLI 16 (by decide) (by decide) (by decide), ht3.1 31 (by decide), htI 31 (by decide) (by decide), e16]
        · rw [hc1 17 (by decide), hcL17, ht3.1 32 (by decide)]
          exact jx_tL_32 (tk := w (4 + g)) e17 e13
        · exact jm_k.setI (hkT.trans (ht3.wd (by decide) (by decide) (by simp))) (by decide)
        · exact (hc1 18 (by decide)).trans ((hcLI 18 (by decide) (by decide) (by decide)).trans h18)
      have h61 : (jx_cL (jx_fb okp c) (w (4 + g))).2.2.1 5 6 = c.2.2.1 5 6 := by rw [hcL2]
      rcases hj with e0 | e0 | e0
      · have hdt := jm_does_4 (F := F) hV2 hk (by rw [ht1]; exact e0) hce (by rw [ht1]; exact e5)
        rw [htA 16 (by decide)] at hdt
        have e : t.2.1 16 ce = jx_to w (c.2.2.1 5 1) (c.2.2.1 5 3) k d := by unfold jx_to; rw [if_neg (by rw [e0]; decide), hcl]; exact (m1 ce hce).symm
        rw [e] at hdt
        refine hfin _ _ d ?_ hdt hM1 (fun q _ => rfl) h61 jm_k.rf jx_f5.rf
        unfold jx_cJ
        rw [if_neg (by rw [e0]; decide), if_neg (by rw [e0]; decide)]
      · have hd8 : d < 8 := Nat.lt_of_le_of_ne hd (fun e => hT (Or.inl ⟨e0, e⟩))
        have hdt := jm_does_6 (F := F) hV2 hk (by rw [ht1]; exact e0) hd8 ((htI 21 (by decide) (by decide)).trans h21) hce (by rw [ht1]; exact e5)
        rw [htA 16 (by decide)] at hdt
        have e : t.2.1 16 ce = jx_to w (c.2.2.1 5 1) (c.2.2.1 5 3) k d := by unfold jx_to; rw [if_neg (by rw [e0]; decide), hcl]; exact (m1 ce hce).symm
        rw [e] at hdt
        refine hfin _ _ (d + 1) ?_ hdt (jx_M0_P hM1 hd8) (fun q hq => jf_In (by omega)) h61 ((((jm_k.rf.setA (by decide)).setA (by decide)).setA (by decide)).setI (by decide)) jx_f5.rf.A.A.A.I
        unfold jx_cJ
        rw [if_pos e0]
      · have hd0 := h7 e0
        obtain ⟨d', rfl⟩ : ∃ d', d = d' + 1 := ⟨d - 1, by omega⟩
        have hdt := jm_does_7 (F := F) hV2 hk (by rw [ht1]; exact e0) (show d' < 8 by omega) ((htI 21 (by decide) (by decide)).trans h21)
        rw [htA 18 (by decide)] at hdt
        have e : t.2.1 18 d' = jx_to w (c.2.2.1 5 1) (c.2.2.1 5 3) k (d' + 1) := by unfold jx_to; rw [if_pos e0]; exact ((m3 d' (by omega)).1).symm
        rw [e] at hdt
        refine hfin _ _ d' ?_ hdt (jx_M0_pop hM1) (fun q hq => jf_In (by omega)) h61 (jm_k.rf.setI (by decide)) jx_f5.rf.I
        unfold jx_cJ
        rw [if_neg (by rw [e0]; decide), if_pos e0]
        rfl
    · left
      have hp : ¬ jx_ok n (jz_O w) k g (t.2.1 20 (d - 1)) (jx_to w (t.2.1 16) (t.2.1 18) k d) := fun z => hgo (Or.inl (hok.mp z))
      have hx2 : ¬ x2 = 0 := fun z => hgo (Or.inr (h18.trans z))
      refine ⟨_, jm_setI (jm_setI (jm_setI t 26 (nI 1)) 31 (jx_to w (c.2.2.1 5 1) (c.2.2.1 5 3) k d)) 30 (jx_ld w (c.2.2.1 5 2) (c.2.2.1 5 5) k d), jk_step_end h9 hn h13 hk hrc (d3 hT hgo) (by show ¬ nI 1 = nI 4; decide) (by show ¬ nI 1 = (0 : Int32); decide), ?_, ⟨⟨d, st, sd, ?_⟩, rfl⟩, jx_f5.rf.I.I.I.I, ((jm_k.rf.setI (by decide)).setI (by decide)).setI (by decide)⟩
      · intro r53
        unfold jm_runs_b61
        rw [h24, if_neg (fun z => by rw [nI_eq (by omega) (by decide)] at z; omega), h27, htr, Option.bind_some]
        show (if jt _ = 0 then _ else _) = _
        rw [jt_ifn (fun z => hT (hTr.mp z))]
        simp only [jx_nx, h27, hjt, Option.bind_some]
        rw [jt_if hj, hgd, Option.bind_some]
        show (if jt _ = 0 then _ else _) = _
        rw [jt_if hp, if_neg hx2, hland (jm_setI t 26 (nI 1)) rfl h21, Option.bind_some]
        have hto2 : jx_to ((jm_setI t 26 (nI 1)).2.1 1) ((jm_setI t 26 (nI 1)).2.1 16) ((jm_setI t 26 (nI 1)).2.1 18) k d = jx_to w (c.2.2.1 5 1) (c.2.2.1 5 3) k d := by
          show jx_to (t.2.1 1) (t.2.1 16) (t.2.1 18) k d = _
          rw [hw, hto]
        simp only [jm_wordOf_eq hk4, jm_I2, hw, hto, Option.bind_some, jm_of_eq hk4 (show 5 < 9 by decide) (show 5 ≠ 2 by decide), e5, jx_ga_nI hce (show 16 < 2 ^ 31 by decide)]
        rw [← hld]
        unfold jx_ld
        by_cases w7 : jz_O w k 0 = nI 7
        · have hd0 := h7 w7
          have e21 : (jm_setI (jm_setI t 26 (nI 1)) 31 (jx_to w (c.2.2.1 5 1) (c.2.2.1 5 3) k d)).1 21 = nI d := h21
          rw [if_pos w7, if_pos w7, e21, pk_sub hd0, jx_ga_nI (by omega) (by decide)]
        · rw [if_neg w7, if_neg w7, hcl]
      · exact ⟨hM0, ⟨hst3, hsd, h10, h24⟩, ⟨h27.symm, e11, e13, rfl, rfl, e17⟩, e6⟩
/-- one order of a run -/
theorem jx_body {F n b p h d st sd : Nat} {c : jf_S} {t : jm_S} {w : Nat → Int32} {x1 x2 : Int32} (hR : jx_R c t w n b p h) (hM : jx_M c t d st sd) (hst : st < 300) (h14 : c.1 5 14 = nI 4) (h18 : c.1 5 18 = x2) :
    (∃ c' t', jk_step F c = some (nI 0, c') ∧ (∀ r53, jm_runs_b61 F r53 x1 x2 t = some t') ∧ jx_E c' t' ∧ jx_f5 c c' ∧ jm_k jx_tI jx_tA [] t t') ∨
    (∃ c' t' d' sd', jk_step F c = some (nI 1, c') ∧ (∀ r53, jm_runs_b61 F r53 x1 x2 t = r53 (x1, x2, t')) ∧ jx_M c' t' d' (st + 1) sd' ∧ jx_f5 c c' ∧ jm_k jx_tI jx_tA [] t t' ∧ c'.1 5 14 = nI 4 ∧ c'.1 5 18 = x2) := by
  obtain ⟨hW, hC, hL, hw, hlt⟩ := id hR
  have hV : jz_V w n := hW.v
  obtain ⟨hn, hw0, ho⟩ := id hV
  have hVt : jz_V (t.2.1 1) n := by rw [hw]; exact hV
  obtain ⟨hM0, ⟨hst3, hsd, h10, h24⟩, ⟨e9, e11, e13, e15, e16, e17⟩, e6⟩ := id hM
  obtain ⟨⟨hd, h8, h21, h12, h25⟩, m1, m2, m3, m4⟩ := id hM0
  have h13 : c.1 3 13 = nI n := hC.1.1
  have hb61 : ∀ r53, jm_runs_b61 F r53 x1 x2 t = (jm_isTrapped F (t.1 27) t).bind fun q2 => if q2.1 = 0 then jx_nx (q2.2.1 27) fun y4 => (jm_isJump F y4 q2.2).bind fun q5 => if q5.1 = 0 then jm_runs_b242 F r53 x1 x2 y4 q5.2 else (jm_isGuarded F y4 q5.2).bind fun q7 => jx_nx (q7.1) fun y8 => if y8 = 0 then jm_runs_b177 F r53 x1 x2 y4 y8 q7.2 else if x2 = 0 then jm_runs_b177 F r53 x1 x2 y4 y8 q7.2 else jx_nx (jm_setI q7.2 26 (nI 1)) fun S11 => (jm_landingOf F y4 S11).bind fun q12 => jx_nx (jm_setI q12.2 31 q12.1) fun S13 => (jm_wordOf F y4 S13).bind fun q14 => if q14.1 = (nI 7) then jx_ga ((q14.2.1 21) - (nI 1)) 8 fun j19 => jx_nx (jm_setI q14.2 30 (q14.2.2.1 19 j19)) fun S20 => some S20 else (jm_of F y4 (nI 5) q14.2).bind fun q16 => jx_ga q16.1 16 fun j17 => jx_nx (jm_setI q16.2 30 (q16.2.2.1 17 j17)) fun S18 => some S18 else jx_nx (jm_setI q2.2 26 (nI 3)) fun S21 => some S21 := by
    intro r53
    unfold jm_runs_b61
    rw [h24, if_neg (fun z => by rw [nI_eq (by omega) (by decide)] at z; omega)]
  by_cases hk : ∃ k : Nat, k < n ∧ c.1 5 9 = nI k
  · obtain ⟨k, hk, h9⟩ := hk
    have h27 : t.1 27 = nI k := e9.symm.trans h9
    obtain ⟨rc, hrc, hrc2⟩ := hC.1.2 k hk
    obtain ⟨ce, hce, e5⟩ := (ho k hk).ce
    obtain ⟨wd, hwd, e0⟩ := (ho k hk).wd
    have htr := jm_isTrapped_eq (F := F) hVt hk hd h21
    rw [hw] at htr
    have hsum : jz_O w k 0 = nI 0 → jz_sum (t.2.1 16) (jz_O w k 6) (jz_O w k 7) (jz_O w k 8) = jz_sum (c.2.2.1 5 1) (jz_O w k 6) (jz_O w k 7) (jz_O w k 8) := fun z => jz_sum_cong (fun i hi => (m1 i hi).symm) ((ho k hk).a6 (Or.inl z)) (by rcases (ho k hk).s8 z with z | z; exact Or.inl z; exact Or.inr z.2)
    have hk4 : k < 40 := by omega
    have hj := jm_isJump_eq (F := F) (S := t) hk4
    rw [hw] at hj
    -- trapped
    have hT : jx_Tr w (t.2.1 16) k d → jv_does F rc (nI k) c = some (c.1 5 9, jf_setI c 5 14 (nI 3)) → (∃ c' t', jk_step F c = some (nI 0, c') ∧ (∀ r53, jm_runs_b61 F r53 x1 x2 t = some t') ∧ jx_E c' t' ∧ jx_f5 c c' ∧ jm_k jx_tI jx_tA [] t t') := by
      intro hT hdo
      refine ⟨_, jm_setI t 26 (nI 3), jk_step_end h9 hn h13 hk hrc hdo (by show ¬ nI 3 = nI 4; decide) (by show ¬ nI 3 = (0 : Int32); decide), ?_, ⟨⟨d, st, sd, ?_⟩, rfl⟩, jx_f5.rf.I.I, jm_k.rf.setI (by decide)⟩
      · intro r53
        rw [hb61, h27, htr, Option.bind_some]
        show (if jt _ = 0 then _ else _) = _
        rw [jt_if hT]
        rfl
      · exact ⟨hM0, ⟨hst3, hsd, h10, h24⟩, ⟨e9, e11, e13, e15, e16, e17⟩, e6⟩
    -- not trapped, no jump
    have hN : ¬ jx_Tr w (t.2.1 16) k d → ¬ jz_j (jz_O w) k → ¬ jz_O w k 0 = nI 9 → ∀ (to : Int32) (c1 : jf_S) (t3 : jm_S) (d' sd' : Nat), jv_does F rc (nI k) c = some (to, c1) → jm_does F (nI k) (jx_t2 t k st) = some (to, t3) → jx_M0 c1 t3 d' sd' → sd' ≤ st + 1 → (∀ q, 9 ≤ q → q ≠ 12 → c1.1 5 q = c.1 5 q) → c1.2.2.1 5 6 = c.2.2.1 5 6 → jm_k [21, 25] [16, 17, 18, 19, 20, 23] [] (jx_t2 t k st) t3 → jx_f5 c c1 →
        (∃ c' t' d' sd', jk_step F c = some (nI 1, c') ∧ (∀ r53, jm_runs_b61 F r53 x1 x2 t = r53 (x1, x2, t')) ∧ jx_M c' t' d' (st + 1) sd' ∧ jx_f5 c c' ∧ jm_k jx_tI jx_tA [] t t' ∧ c'.1 5 14 = nI 4 ∧ c'.1 5 18 = x2) := by
      intro hT hnj h9w to c1 t3 d' sd' hdo hdt hM1 hsd1 hc1 h61 ht3 hf
      have e14 : c1.1 5 14 = nI 4 := (hc1 14 (by decide) (by decide)).trans h14
      have e10 : c1.1 5 10 = nI st := (hc1 10 (by decide) (by decide)).trans h10
      have et1 : t3.2.1 1 = w := (ht3.2.1 1 (by decide)).trans hw
      refine ⟨_, _, d', sd', jk_step_go h9 hn h13 hk hrc hdo e14 e10 hst, ?_, jx_M_next hM hst hM1 hsd1 ((hc1 11 (by decide) (by decide)).trans (e11.trans (ht3.1 28 (by decide)).symm)) ((hc1 13 (by decide) (by decide)).trans (e13.trans (ht3.1 29 (by decide)).symm)) ((hc1 15 (by decide) (by decide)).trans (e15.trans (ht3.1 30 (by decide)).symm)) ((hc1 16 (by decide) (by decide)).trans (e16.trans (ht3.1 31 (by decide)).symm)) (by rw [hc1 17 (by decide) (by decide), e17]; exact (ht3.1 32 (by decide)).symm) h61 (ht3.2.1 22 (by decide)) (ht3.1 24 (by decide)), hf.A.I.I, ?_, e14, ?_⟩
      · intro r53
        rw [hb61, h27, htr, Option.bind_some]
        show (if jt _ = 0 then _ else _) = _
        rw [jt_ifn hT]
        simp only [jx_nx, h27, hj, Option.bind_some]
        rw [jt_ifn hnj, jm_b242_eq hn hk h24 hst hdt, et1, if_neg h9w]
      · refine jm_k.setI ?_ (by decide)
        have h1 : jm_k jx_tI jx_tA [] t (jx_t2 t k st) := (jm_k.rf.setA (by decide)).setI (by decide)
        exact h1.trans (ht3.wd (by decide) (by decide) (by simp))
      · exact (hc1 18 (by decide) (by decide)).trans h18
    have ht2k : jm_k [21, 25] [16, 17, 18, 19, 20, 23] [] (jx_t2 t k st) (jx_t2 t k st) := jm_k.rf
    have hM2 : jx_M0 c (jx_t2 t k st) d sd := hM0.kt rfl rfl (fun i h1 h2 h3 => jm_An h3)
    have hV2 : jz_V ((jx_t2 t k st).2.1 1) n := hVt
    have hw2 : (jx_t2 t k st).2.1 1 = w := hw
    have h16 : (jx_t2 t k st).2.1 16 = t.2.1 16 := rfl
    rcases jz_10 hwd with rfl | rfl | rfl | rfl | rfl | rfl | rfl | rfl | rfl | rfl
    · -- set
      obtain ⟨c1, c2⟩ := jv_does_0 (F := F) (c := c) hrc2 (ho k hk) e0 hce e5
      by_cases hs : jz_tr (jz_sum (c.2.2.1 5 1) (jz_O w k 6) (jz_O w k 7) (jz_O w k 8))
      · exact Or.inl (hT (Or.inl ⟨e0, by rw [hsum e0]; exact hs⟩) (c1 hs))
      · have hnt : ¬ jx_Tr w (t.2.1 16) k d := by
          rintro (z | z | z)
          · rw [hsum e0] at z; exact hs z.2
          · rcases z.1 with z | z <;> rw [e0] at z <;> exact absurd z (by decide)
          · rw [e0] at z; exact absurd z.1 (by decide)
        have hdt := jm_does_0 (F := F) hV2 hk (by rw [hw2]; exact e0) hce (by rw [hw2]; exact e5)
        rw [hw2, h16, hsum e0] at hdt
        refine Or.inr (hN hnt (by unfold jz_j; rw [e0]; decide) (by rw [e0]; decide) _ _ _ d sd (c2 hs) hdt (jx_M0_W hM2) (by omega) (fun q _ _ => rfl) rfl ((ht2k.setA (by decide)).setA (by decide)) jx_f5.rf.A.A)
    · -- point
      have hnt : ¬ jx_Tr w (t.2.1 16) k d := by
        rintro (z | z | z)
        · rw [e0] at z; exact absurd z.1 (by decide)
        · rcases z.1 with z | z <;> rw [e0] at z <;> exact absurd z (by decide)
        · rw [e0] at z; exact absurd z.1 (by decide)
      have hdt := jm_does_1 (F := F) hV2 hk (by rw [hw2]; exact e0) hce (by rw [hw2]; exact e5)
      rw [hw2] at hdt
      exact Or.inr (hN hnt (by unfold jz_j; rw [e0]; decide) (by rw [e0]; decide) _ _ _ d sd (jv_does_1 hrc2 e0 hce e5) hdt (jx_M0_W hM2) (by omega) (fun q _ _ => rfl) rfl ((ht2k.setA (by decide)).setA (by decide)) jx_f5.rf.A.A)
    · -- jump
      have hnt : ¬ jx_Tr w (t.2.1 16) k d := by
        rintro (z | z | z)
        · rw [e0] at z; exact absurd z.1 (by decide)
        · rcases z.1 with z | z <;> rw [e0] at z <;> exact absurd z (by decide)
        · rw [e0] at z; exact absurd z.1 (by decide)
      have hdt := jm_does_2 (F := F) hV2 hk (by rw [hw2]; exact e0)
      rw [hw2] at hdt
      exact Or.inr (hN hnt (by unfold jz_j; rw [e0]; decide) (by rw [e0]; decide) _ _ _ d sd (jv_does_2 hrc2 e0) hdt hM2 (by omega) (fun q _ _ => rfl) rfl ht2k jx_f5.rf)
    · -- if
      have hnt : ¬ jx_Tr w (t.2.1 16) k d := by
        rintro (z | z | z)
        · rw [e0] at z; exact absurd z.1 (by decide)
        · rcases z.1 with z | z <;> rw [e0] at z <;> exact absurd z (by decide)
        · rw [e0] at z; exact absurd z.1 (by decide)
      obtain ⟨t1, t2⟩ := jm_does_3 (F := F) hV2 hk (by rw [hw2]; exact e0)
      obtain ⟨c1, c2⟩ := jv_does_3 (F := F) (c := c) hrc2 (ho k hk) e0
      rw [hw2, h16] at t1 t2
      have hso : jz_so2 (c.2.2.1 5 1) (jz_O w k 6) (jz_O w k 7) (jz_O w k 8) ↔ jz_so2 (t.2.1 16) (jz_O w k 6) (jz_O w k 7) (jz_O w k 8) := jz_so2_cong m1 ((ho k hk).a6 (Or.inr (Or.inl e0))) ((ho k hk).a7 e0).1
      by_cases hs : jz_so2 (c.2.2.1 5 1) (jz_O w k 6) (jz_O w k 7) (jz_O w k 8)
      · exact Or.inr (hN hnt (by unfold jz_j; rw [e0]; decide) (by rw [e0]; decide) _ _ _ d sd (c1 hs) (t1 (hso.mp hs)) hM2 (by omega) (fun q _ _ => rfl) rfl ht2k jx_f5.rf)
      · exact Or.inr (hN hnt (by unfold jz_j; rw [e0]; decide) (by rw [e0]; decide) _ _ _ d sd (c2 hs) (t2 (fun z => hs (hso.mpr z))) hM2 (by omega) (fun q _ _ => rfl) rfl ht2k jx_f5.rf)
    · exact jx_bodyJ hR hM hst h14 h18 hk h9 (Or.inl e0)
    · -- call
      obtain ⟨c1, c2⟩ := jv_does_5 (F := F) (c := c) hrc2 e0 hd h8
      rcases Nat.lt_or_ge d 8 with hd8 | hd8
      · have hnt : ¬ jx_Tr w (t.2.1 16) k d := by
          rintro (z | z | z)
          · rw [e0] at z; exact absurd z.1 (by decide)
          · omega
          · rw [e0] at z; exact absurd z.1 (by decide)
        have hdt := jm_does_5 (F := F) hV2 hk (by rw [hw2]; exact e0) hd8 h21
        rw [hw2] at hdt
        exact Or.inr (hN hnt (by unfold jz_j; rw [e0]; decide) (by rw [e0]; decide) _ _ _ (d + 1) sd (c2 hd8) hdt (jx_M0_P hM2 hd8) (by omega) (fun q h1 h2 => jf_In (by omega)) rfl ((((ht2k.setA (by decide)).setA (by decide)).setA (by decide)).setI (by decide)) jx_f5.rf.A.A.A.I)
      · have hd8' : d = 8 := by omega
        exact Or.inl (hT (Or.inr (Or.inl ⟨Or.inl e0, hd8'⟩)) (c1 hd8'))
    · exact jx_bodyJ hR hM hst h14 h18 hk h9 (Or.inr (Or.inl e0))
    · exact jx_bodyJ hR hM hst h14 h18 hk h9 (Or.inr (Or.inr e0))
    · -- door
      have hnt : ¬ jx_Tr w (t.2.1 16) k d := by
        rintro (z | z | z)
        · rw [e0] at z; exact absurd z.1 (by decide)
        · rcases z.1 with z | z <;> rw [e0] at z <;> exact absurd z (by decide)
        · rw [e0] at z; exact absurd z.1 (by decide)
      have hdt := jm_does_8 (F := F) hV2 hk (by rw [hw2]; exact e0) (show sd < 300 by omega) h25
      rw [hw2, h16, ← jz_v_cong m1 ((ho k hk).a6 (Or.inr (Or.inr e0)))] at hdt
      exact Or.inr (hN hnt (by unfold jz_j; rw [e0]; decide) (by rw [e0]; decide) _ _ _ d (sd + 1) (jv_does_8 hrc2 (ho k hk) e0 (by omega) h12) hdt (jx_M0_S hM2) (by omega) (fun q h1 h2 => jf_In (by omega)) rfl ((ht2k.setA (by decide)).setI (by decide)) jx_f5.rf.A.I)
    · -- stop
      have hnt : ¬ jx_Tr w (t.2.1 16) k d := by
        rintro (z | z | z)
        · rw [e0] at z; exact absurd z.1 (by decide)
        · rcases z.1 with z | z <;> rw [e0] at z <;> exact absurd z (by decide)
        · rw [e0] at z; exact absurd z.1 (by decide)
      have hnj : ¬ jz_j (jz_O w) k := by unfold jz_j; rw [e0]; decide
      have hdt := jm_does_9 (F := F) hV2 hk (by rw [hw2]; exact e0)
      have hMn : jx_M (jx_c2 (jf_setI c 5 14 (nI 0)) k st (nI k)) (jm_setI (jx_t2 t k st) 27 (nI k)) d (st + 1) sd := jx_M_next hM hst (c1 := jf_setI c 5 14 (nI 0)) (t3 := jx_t2 t k st) (hM2.kc rfl rfl rfl) (by omega) e11 e13 e15 e16 e17 rfl rfl rfl
      refine Or.inl ⟨_, jm_setI (jm_setI (jx_t2 t k st) 27 (nI k)) 26 (nI 0), jk_step_stop h9 hn h13 hk hrc (jv_does_9 hrc2 e0) rfl h10 hst, ?_, ⟨⟨d, st + 1, sd, hMn⟩, rfl⟩, jx_f5.rf.I.A.I.I, (((jm_k.rf.setA (by decide)).setI (by decide)).setI (by decide)).setI (by decide)⟩
      intro r53
      rw [hb61, h27, htr, Option.bind_some]
      show (if jt _ = 0 then _ else _) = _
      rw [jt_ifn hnt]
      simp only [jx_nx, h27, hj, Option.bind_some]
      rw [jt_ifn hnj, jm_b242_eq hn hk h24 hst hdt, hw2, if_pos e0]
  · have h27 : ¬ ∃ j : Nat, j < n ∧ t.1 27 = nI j := by rw [← e9]; exact hk
    refine Or.inl ⟨_, jm_setI t 26 (nI 3), jk_step_out hn h13 hk, ?_, ⟨⟨d, st, sd, ?_⟩, rfl⟩, jx_f5.rf.I, jm_k.rf.setI (by decide)⟩
    · intro r53
      rw [hb61]
      unfold jm_isTrapped
      rw [jm_noOrder_eq hn (by rw [hw]; exact hw0), Option.bind_some]
      show ((if jt _ = 0 then _ else _) : Option _).bind _ = _
      rw [jt_if h27]
      rfl
    · exact ⟨hM0, ⟨hst3, hsd, h10, h24⟩, ⟨e9, e11, e13, e15, e16, e17⟩, e6⟩
