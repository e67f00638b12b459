/-! the row is tried, whole -/
set_option maxRecDepth 100000
/-- an order, no guard: trapped, or both do it -/
theorem jx_do0 {F n b p h d sd k : Nat} {c : jf_S} {t : jm_S} {w : Nat → Int32} {rc : jo_R} (hW : jz_W w n b p h) (hC : jx_C 3 c w n b p h) (hL : jp_LN 3 n (jz_O w) c) (hw : t.2.1 1 = w) (hM0 : jx_M0 c t d sd) (hsd : sd < 300) (h14 : c.1 5 14 = nI 4) (h18 : c.1 5 18 = 0) (hk : k < n) (hrc2 : ∀ c, c < 9 → c ≠ 2 → rc c = jz_O w k c) (h9 : ¬ jz_O w k 0 = nI 9) :
    (jx_Tr w (t.2.1 16) k d ∧ jv_does F rc (nI k) c = some (c.1 5 9, jf_setI c 5 14 (nI 3))) ∨
    (¬ jx_Tr w (t.2.1 16) k d ∧ ∃ to c2 t2 d' sd', jv_does F rc (nI k) c = some (to, c2) ∧ jm_does F (nI k) t = some (to, t2) ∧ jx_M0 c2 t2 d' sd' ∧ sd' ≤ sd + 1 ∧ c2.1 5 14 = nI 4 ∧ c2.1 5 10 = c.1 5 10 ∧ c2.1 5 18 = c.1 5 18 ∧ jx_f5 c c2 ∧ jm_k [21, 25] [16, 17, 18, 19, 20, 23] [] t t2) := by
  have hV : jz_V w n := hW.v
  obtain ⟨hn, hw0, ho⟩ := id hV
  have hVt : jz_V (t.2.1 1) n := by rw [hw]; exact hV
  obtain ⟨⟨hd, h8, h21, h12, h25⟩, m1, m2, m3, m4⟩ := id hM0
  have hk4 : k < 40 := by omega
  obtain ⟨ce, hce, e5⟩ := (ho k hk).ce
  have hcl : jz_cl (jz_O w) k = ce := by unfold jz_cl; rw [e5, nI_clamp (by omega)]
  obtain ⟨wd, hwd, e0⟩ := (ho k hk).wd
  have hsum : jz_O w k 0 = nI 0 → jz_sum (t.2.1 16) (jz_O w k 6) (jz_O w k 7) (jz_O w k 8) = jz_sum (c.2.2.1 5 1) (jz_O w k 6) (jz_O w k 7) (jz_O w k 8) := fun z => jz_sum_cong (fun i hi => (m1 i hi).symm) ((ho k hk).a6 (Or.inl z)) (by rcases (ho k hk).s8 z with z | z; exact Or.inl z; exact Or.inr z.2)
  have hplain : ¬ (wd = 0 ∨ wd = 5 ∨ wd = 6 ∨ wd = 7) → ¬ jx_Tr w (t.2.1 16) k d := by
    intro hno
    rintro (z | ⟨z | z, -⟩ | z)
    · have := z.1; rw [e0, nI_eq (by omega) (by decide)] at this; exact hno (Or.inl this)
    · rw [e0, nI_eq (by omega) (by decide)] at z; exact hno (Or.inr (Or.inl z))
    · rw [e0, nI_eq (by omega) (by decide)] at z; exact hno (Or.inr (Or.inr (Or.inl z)))
    · have := z.1; rw [e0, nI_eq (by omega) (by decide)] at this; exact hno (Or.inr (Or.inr (Or.inr this)))
  -- jumps
  have hjump : jz_j (jz_O w) k → (jx_Tr w (t.2.1 16) k d ∧ jv_does F rc (nI k) c = some (c.1 5 9, jf_setI c 5 14 (nI 3))) ∨
    (¬ jx_Tr w (t.2.1 16) k d ∧ ∃ to c2 t2 d' sd', jv_does F rc (nI k) c = some (to, c2) ∧ jm_does F (nI k) t = some (to, t2) ∧ jx_M0 c2 t2 d' sd' ∧ sd' ≤ sd + 1 ∧ c2.1 5 14 = nI 4 ∧ c2.1 5 10 = c.1 5 10 ∧ c2.1 5 18 = c.1 5 18 ∧ jx_f5 c c2 ∧ jm_k [21, 25] [16, 17, 18, 19, 20, 23] [] t t2) := by
    intro hj
    obtain ⟨hg, h2⟩ := jz_gr_eq hW hk
    obtain ⟨d1, d2, -⟩ := jv_does_j (F := F) hV hC hL hk hrc2 hj hd h8 hg h2 hce e5 h14
    have hTr : jx_Tr w (t.2.1 16) k d ↔ ((jz_O w k 0 = nI 6 ∧ d = 8) ∨ (jz_O w k 0 = nI 7 ∧ d = 0)) := by
      constructor
      · rintro (z | ⟨z | z, z2⟩ | z)
        · rcases hj with h | h | h <;> rw [z.1] at h <;> exact absurd h (by decide)
        · rcases hj with h | h | h <;> rw [z] at h <;> exact absurd h (by decide)
        · exact Or.inl ⟨z, z2⟩
        · exact Or.inr z
      · rintro (z | z)
        · exact Or.inr (Or.inl ⟨Or.inr z.1, z.2⟩)
        · exact Or.inr (Or.inr z)
    by_cases hT : (jz_O w k 0 = nI 6 ∧ d = 8) ∨ (jz_O w k 0 = nI 7 ∧ d = 0)
    · exact Or.inl ⟨hTr.mpr hT, d1 hT⟩
    · right
      refine ⟨fun z => hT (hTr.mp z), ?_⟩
      have hd2 := d2 hT (Or.inr h18)
      generalize jx_ok n (jz_O w) k (jz_gr w k) (c.2.2.1 5 4 (d - 1)) (jx_to w (c.2.2.1 5 1) (c.2.2.1 5 3) k d) = okp at hd2
      have hcL2 : (jx_cL (jx_fb okp c) (w (4 + jz_gr w k))).2 = c.2 := jx_fb_2
      have hcLI : ∀ q, q ≠ 17 → q ≠ 13 → q ≠ 11 → (jx_cL (jx_fb okp c) (w (4 + jz_gr w k))).1 5 q = c.1 5 q := fun q q1 q2 q3 => by
        unfold jx_cL
        rw [jf_In (by omega), jf_In (by omega), jx_fb_I q1]
      have hcLf : jx_f5 c (jx_cL (jx_fb okp c) (w (4 + jz_gr w k))) := by
        unfold jx_cL
        have : jx_f5 c (jx_fb okp c) := by
          unfold jx_fb
          by_cases h : ¬ okp ∧ c.1 5 17 = (-1 : Int32)
          · rw [if_pos h]; exact jx_f5.rf.I
          · rw [if_neg h]; exact jx_f5.rf
        exact this.I.I
      have hM1 : jx_M0 (jx_cL (jx_fb okp c) (w (4 + jz_gr w k))) t d sd := hM0.kc (hcLI 8 (by decide) (by decide) (by decide)) (hcLI 12 (by decide) (by decide) (by decide)) (by rw [hcL2])
      have i14 := (hcLI 14 (by decide) (by decide) (by decide)).trans h14
      have i10 := hcLI 10 (by decide) (by decide) (by decide)
      have i18 := hcLI 18 (by decide) (by decide) (by decide)
      rcases hj with e | e | e
      · have hdt := jm_does_4 (F := F) hVt hk (by rw [hw]; exact e) hce (by rw [hw]; exact e5)
        have eto : t.2.1 16 ce = jx_to w (c.2.2.1 5 1) (c.2.2.1 5 3) k d := by unfold jx_to; rw [if_neg (by rw [e]; decide), hcl]; exact (m1 ce hce).symm
        rw [eto] at hdt
        unfold jx_cJ at hd2
        rw [if_neg (by rw [e]; decide), if_neg (by rw [e]; decide)] at hd2
        exact ⟨_, _, _, d, sd, hd2, hdt, hM1, by omega, i14, i10, i18, hcLf, jm_k.rf⟩
      · have hd8 : d < 8 := Nat.lt_of_le_of_ne hd (fun z => hT (Or.inl ⟨e, z⟩))
        have hdt := jm_does_6 (F := F) hVt hk (by rw [hw]; exact e) hd8 h21 hce (by rw [hw]; exact e5)
        have eto : t.2.1 16 ce = jx_to w (c.2.2.1 5 1) (c.2.2.1 5 3) k d := by unfold jx_to; rw [if_neg (by rw [e]; decide), hcl]; exact (m1 ce hce).symm
        rw [eto] at hdt
        unfold jx_cJ at hd2
        rw [if_pos e] at hd2
        exact ⟨_, _, _, d + 1, sd, hd2, hdt, jx_M0_P hM1 hd8, by omega, i14, i10, i18, hcLf.trans jx_f5.rf.A.A.A.I, (((jm_k.rf.setA (by decide)).setA (by decide)).setA (by decide)).setI (by decide)⟩
      · have hd0 : 0 < d := Nat.pos_of_ne_zero (fun z => hT (Or.inr ⟨e, z⟩))
        obtain ⟨d', rfl⟩ : ∃ d', d = d' + 1 := ⟨d - 1, by omega⟩
        have hdt := jm_does_7 (F := F) hVt hk (by rw [hw]; exact e) (show d' < 8 by omega) h21
        have eto : t.2.1 18 d' = jx_to w (c.2.2.1 5 1) (c.2.2.1 5 3) k (d' + 1) := by unfold jx_to; rw [if_pos e]; exact ((m3 d' (by omega)).1).symm
        rw [eto] at hdt
        unfold jx_cJ at hd2
        rw [if_neg (by rw [e]; decide), if_pos e] at hd2
        exact ⟨_, _, _, d', sd, hd2, hdt, jx_M0_pop hM1, by omega, i14, i10, i18, hcLf.trans jx_f5.rf.I, jm_k.rf.setI (by decide)⟩
  rcases jz_10 hwd with rfl | rfl | rfl | rfl | rfl | rfl | rfl | rfl | rfl | rfl
  · obtain ⟨c1, c2⟩ := jv_does_0 (F := F) (c := c) hrc2 (ho k hk) e0 hce e5
    by_cases hs : jz_tr (jz_sum (c.2.2.1 5 1) (jz_O w k 6) (jz_O w k 7) (jz_O w k 8))
    · exact Or.inl ⟨Or.inl ⟨e0, by rw [hsum e0]; exact hs⟩, c1 hs⟩
    · have hnt : ¬ jx_Tr w (t.2.1 16) k d := by
        rintro (z | z | z)
        · rw [hsum e0] at z; exact hs z.2
        · rcases z.1 with z | z <;> rw [e0] at z <;> exact absurd z (by decide)
        · rw [e0] at z; exact absurd z.1 (by decide)
      have hdt := jm_does_0 (F := F) hVt hk (by rw [hw]; exact e0) hce (by rw [hw]; exact e5)
      rw [hw, hsum e0] at hdt
      exact Or.inr ⟨hnt, _, _, _, d, sd, c2 hs, hdt, jx_M0_W hM0, by omega, h14, rfl, rfl, jx_f5.rf.A.A, (jm_k.rf.setA (by decide)).setA (by decide)⟩
  · have hdt := jm_does_1 (F := F) hVt hk (by rw [hw]; exact e0) hce (by rw [hw]; exact e5)
    rw [hw] at hdt
    exact Or.inr ⟨hplain (by decide), _, _, _, d, sd, jv_does_1 hrc2 e0 hce e5, hdt, jx_M0_W hM0, by omega, h14, rfl, rfl, jx_f5.rf.A.A, (jm_k.rf.setA (by decide)).setA (by decide)⟩
  · have hdt := jm_does_2 (F := F) hVt hk (by rw [hw]; exact e0)
    rw [hw] at hdt
    exact Or.inr ⟨hplain (by decide), _, _, _, d, sd, jv_does_2 hrc2 e0, hdt, hM0, by omega, h14, rfl, rfl, jx_f5.rf, jm_k.rf⟩
  · obtain ⟨t1, t2⟩ := jm_does_3 (F := F) hVt hk (by rw [hw]; exact e0)
    obtain ⟨c1, c2⟩ := jv_does_3 (F := F) (c := c) hrc2 (ho k hk) e0
    rw [hw] at t1 t2
    have hso : jz_so2 (c.2.2.1 5 1) (jz_O w k 6) (jz_O w k 7) (jz_O w k 8) ↔ jz_so2 (t.2.1 16) (jz_O w k 6) (jz_O w k 7) (jz_O w k 8) := jz_so2_cong m1 ((ho k hk).a6 (Or.inr (Or.inl e0))) ((ho k hk).a7 e0).1
    by_cases hs : jz_so2 (c.2.2.1 5 1) (jz_O w k 6) (jz_O w k 7) (jz_O w k 8)
    · exact Or.inr ⟨hplain (by decide), _, _, _, d, sd, c1 hs, t1 (hso.mp hs), hM0, by omega, h14, rfl, rfl, jx_f5.rf, jm_k.rf⟩
    · exact Or.inr ⟨hplain (by decide), _, _, _, d, sd, c2 hs, t2 (fun z => hs (hso.mpr z)), hM0, by omega, h14, rfl, rfl, jx_f5.rf, jm_k.rf⟩
  · exact hjump (Or.inl e0)
  · obtain ⟨c1, c2⟩ := jv_does_5 (F := F) (c := c) hrc2 e0 hd h8
    rcases Nat.lt_or_ge d 8 with hd8 | hd8
    · have hnt : ¬ jx_Tr w (t.2.1 16) k d := by
        rintro (z | z | z)
        · rw [e0] at z; exact absurd z.1 (by decide)
        · omega
        · rw [e0] at z; exact absurd z.1 (by decide)
      have hdt := jm_does_5 (F := F) hVt hk (by rw [hw]; exact e0) hd8 h21
      rw [hw] at hdt
      exact Or.inr ⟨hnt, _, _, _, d + 1, sd, c2 hd8, hdt, jx_M0_P hM0 hd8, by omega, h14, rfl, rfl, jx_f5.rf.A.A.A.I, (((jm_k.rf.setA (by decide)).setA (by decide)).setA (by decide)).setI (by decide)⟩
    · have hd8' : d = 8 := by omega
      exact Or.inl ⟨Or.inr (Or.inl ⟨Or.inl e0, hd8'⟩), c1 hd8'⟩
  · exact hjump (Or.inr (Or.inl e0))
  · exact hjump (Or.inr (Or.inr e0))
  · have hdt := jm_does_8 (F := F) hVt hk (by rw [hw]; exact e0) hsd h25
    rw [hw, ← jz_v_cong m1 ((ho k hk).a6 (Or.inr (Or.inr e0)))] at hdt
    exact Or.inr ⟨hplain (by decide), _, _, _, d, sd + 1, jv_does_8 hrc2 (ho k hk) e0 hsd h12, hdt, jx_M0_S hM0, by omega, h14, rfl, rfl, jx_f5.rf.A.I, (jm_k.rf.setA (by decide)).setI (by decide)⟩
  · exact absurd e0 h9
/-- the row, tried to its end -/
theorem jx_tried {F n b p h pw hm m : Nat} {c : jf_S} {t : jm_S} {w : Nat → Int32} (hF : 1000 ≤ F) (hW : jz_W w n b p h) (hC : jx_C 3 c w n b p h) (hL : jp_LN 3 n (jz_O w) c) (hw : t.2.1 1 = w) (hp : pw < p) (hh : hm < h) (hP : jx_P n (jz_MR w n pw (jz_gr w)) (jz_dr w n hm) c t m) :
    jw2 (jf_tried F (nI pw) (w (404 + hm)) c) (jm_isTried F (nI pw) (nI hm) t) (fun q q' => q.1 = q'.1 ∧ (q.1 = nI 0 ∨ q.1 = nI 1) ∧ jx_f5 c q.2 ∧ jm_k jx_tI jx_tA [] t q'.2) := by
  have hV : jz_V w n := hW.v
  obtain ⟨hn, hw0, ho⟩ := id hV
  have hp6 : pw < 6 := by have := hW.1.2.2.1; omega
  have hh8 : hm < 8 := by have := hW.1.2.2.2; omega
  obtain ⟨hm1, hm40, c10, t38, pa, hpa, hpR, hpa0, hpA⟩ := hP
  obtain ⟨c1, ec1, f1, f2, ⟨a8, a9, a10, a11, a12, a13, a14, a15, a16, a17⟩, fc⟩ := jk_begins_sp (F := F) (c := c) hF
  obtain ⟨t1, et1, k1, ⟨b21, b24, b25, b27, b28, b29, b30, b31, b32⟩, kc⟩ := jm_begins_sp (F := F) (t := t) hF
  unfold jf_tried jm_isTried
  simp only [ec1, et1, Option.bind_some, jx_nx]
  unfold jf_tried_h17 jm_isTried_h6
  refine jw2_for (σ := jf_S × jm_S) (m - 1) (fun i s => (nI pw, w (404 + hm), nI i, s.1)) (fun i s => (nI pw, nI hm, nI i, s.2)) (fun i s => jx_f5 c s.1 ∧ jm_k jx_tI jx_tA [] t s.2 ∧ s.1.1 5 9 = nI (pa i) ∧ s.1.1 5 10 = nI i ∧ s.1.1 5 14 = nI 4 ∧ s.1.1 5 18 = 0 ∧ ∃ d sd, sd ≤ i ∧ jx_M0 s.1 s.2 d sd) ?_ ?_ F F 0 (jf_setI c1 5 18 (nI 0), t1) (by omega) (by omega) (by omega) ⟨f1.I, k1.wd (by decide) (by decide) (by simp), by rw [hpa0]; exact a9, a10, a14, rfl, 0, 0, by omega, jx_M0_begin a8 b21 a12 b25 fc kc⟩
  · -- the door
    rintro r1 r2 ⟨c2, t2⟩ ⟨hf, hk, h9, h10, h14, h18, d, sd, hsd, hM⟩
    dsimp only at hf hk h9 h10 h14 h18 hM
    have hC2 : jx_C 3 c2 w n b p h := hf.C (by decide) hC
    have e10 : c2.1 0 10 = nI m := by rw [hf.1 0 (by decide)]; exact c10
    have e05 : c2.2.2.1 0 = c.2.2.1 0 := hf.2.2.1 0 (by decide)
    have e38 : t2.1 38 = nI m := (hk.1 38 (by decide)).trans t38
    have e36 : t2.2.1 36 = t.2.1 36 := hk.2.1 36 (by decide)
    have hw2 : t2.2.1 1 = w := (hk.2.1 1 (by decide)).trans hw
    obtain ⟨hpn, hpc, hpt⟩ := hpa (m - 1) (by omega)
    have hk4 : pa (m - 1) < 40 := by omega
    obtain ⟨rc, hrc, hrc2⟩ := hC2.1.2 _ hpn
    have e0 := hpA.2.1
    have a6 := (ho _ hpn).a6 (Or.inr (Or.inr e0))
    obtain ⟨⟨hd, h8, h21, h12, h25⟩, m1, m2, m3, m4⟩ := id hM
    have hPw := (hC2.2.2.2.2.1 pw hp).1
    have ev : jz_v (t2.2.1 16) (jz_O w (pa (m - 1)) 6) = jz_v (c2.2.2.1 5 1) (jz_O w (pa (m - 1)) 6) := (jz_v_cong m1 a6).symm
    -- the component
    have hcomp : jf_tried_L17 F r1 (nI pw) (w (404 + hm)) (nI (m - 1)) c2 = some (jt (jz_v (c2.2.2.1 5 1) (jz_O w (pa (m - 1)) 6) = w (404 + hm) ∨ jz_ba1 w pw (jz_O w (pa (m - 1)) 6)), c2) := by
      unfold jf_tried_L17
      have hcond : nI m ≤ nI (m - 1 + 1) := nI_le (by omega) (by omega)
      simp only [e10, nI_add, if_pos hcond, pk_sub hm1, jx_ga_nI (show m - 1 < 40 by omega) (show 40 < 2 ^ 31 by decide), e05, hpc, jx_ga_nI hk4 (show 40 < 2 ^ 31 by decide), hrc, Option.bind_some, jx_ge, hrc2 0 (by decide) (by decide), if_pos e0, hrc2 6 (by decide) (by decide), ja_of_eq a6, jf_can_eq hp6 a6 rfl hPw]
      by_cases hv : jz_v (c2.2.2.1 5 1) (jz_O w (pa (m - 1)) 6) = w (404 + hm)
      · rw [if_pos hv, jt_p (Or.inl hv)]
      · rw [if_neg hv]
        by_cases hb : jz_ba1 w pw (jz_O w (pa (m - 1)) 6)
        · rw [jt_if hb, jt_p (Or.inr hb)]
        · rw [jt_ifn hb, jt_n (fun z => by rcases z with z | z; exact hv z; exact hb z)]
    -- the twin
    have hVt : ∀ t0 : jm_S, t0.2.1 1 = w → jz_V (t0.2.1 1) n := fun t0 e => by rw [e]; exact hV
    have hnt : ∀ f : Nat → Int32, ¬ jx_Tr w f (pa (m - 1)) d := by
      intro f
      rintro (z | z | z)
      · rw [e0] at z; exact absurd z.1 (by decide)
      · rcases z.1 with z | z <;> rw [e0] at z <;> exact absurd z (by decide)
      · rw [e0] at z; exact absurd z.1 (by decide)
    have htail : ∀ t3 : jm_S, t3.2.1 1 = w → t3.1 = t2.1 → ((jm_isTrapped F (nI (pa (m - 1))) t3).bind fun q5 => if q5.1 = 0 then if nI (m - 1) = ((q5.2.1 38) - (nI 1)) then (jm_of F (nI (pa (m - 1))) (nI 6) q5.2).bind fun q15 => (jm_valueOf F q15.1 q15.2).bind fun q16 => jx_ga ((nI 404) + nI hm) 412 fun j17 => if q16.1 = (q16.2.2.1 1 j17) then some (nI 1, q16.2) else some (nI 0, q16.2) else (jm_wordOf F (nI (pa (m - 1))) q5.2).bind fun q8 => if q8.1 = (nI 7) then (jm_of F (nI (pa (m - 1))) (nI 2) q8.2).bind fun q10 => if q10.1 = (nI 3) then jx_ga ((q10.2.1 21) - (nI 1)) 8 fun j12 => jx_ga (nI (m - 1) + (nI 1)) 40 fun j13 => if (q10.2.2.1 20 j12) = (q10.2.2.1 36 j13) then jm_isTried_b127 F r2 (nI pw) (nI hm) (nI (m - 1)) (nI (pa (m - 1))) q10.2 else some (nI 0, q10.2) else jm_isTried_b127 F r2 (nI pw) (nI hm) (nI (m - 1)) (nI (pa (m - 1))) q10.2 else jm_isTried_b127 F r2 (nI pw) (nI hm) (nI (m - 1)) (nI (pa (m - 1))) q8.2 else some (nI 0, q5.2)) = some (jt (jz_v (t3.2.1 16) (jz_O w (pa (m - 1)) 6) = w (404 + hm)), t3) := by
      intro t3 ew3 e1
      have htr := jm_isTrapped_eq (F := F) (d := d) (hVt t3 ew3) hpn hd (by rw [e1]; exact h21)
      rw [ew3] at htr
      have hlast : nI (m - 1) = t3.1 38 - nI 1 := by rw [e1, e38, pk_sub hm1]
      simp only [htr, Option.bind_some, jt_ifn (hnt _), if_pos hlast, jm_of_eq hk4 (show 6 < 9 by decide) (show 6 ≠ 2 by decide), ew3, jm_valueOf_eq a6, nI_add, jx_ga_nI (show 404 + hm < 412 by omega) (show 412 < 2 ^ 31 by decide)]
      by_cases hv : jz_v (t3.2.1 16) (jz_O w (pa (m - 1)) 6) = w (404 + hm)
      · rw [if_pos hv, jt_p hv]
      · rw [if_neg hv, jt_n hv]
    show jw2 (jf_tried_L17 F r1 (nI pw) (w (404 + hm)) (nI (m - 1)) c2) (jm_isTried_L6 F r2 (nI pw) (nI hm) (nI (m - 1)) t2) _
    rw [hcomp]
    unfold jm_isTried_L6
    have hge : ¬ nI m ≤ nI (m - 1) := nI_ge (by omega) (by omega)
    simp only [e38, if_neg hge, jx_ga_nI (show m - 1 < 40 by omega) (show 40 < 2 ^ 31 by decide), e36, hpt, jx_nx]
    have hbat : jm_bendsAt F (nI pw) (nI (m - 1)) (nI hm) t2 = if jt (jz_ba1 w pw (jz_O w (pa (m - 1)) 6)) = 0 then some t2 else some (jm_setA t2 16 (upd (t2.2.1 16) (jz_O w (pa (m - 1)) 6 - nI 1000).toNatClampNeg (w (404 + hm)))) := by
      unfold jm_bendsAt
      have hlast : nI (m - 1) = nI m - nI 1 := by rw [pk_sub hm1]
      simp only [jx_ga_nI (show m - 1 < 40 by omega) (show 40 < 2 ^ 31 by decide), e36, hpt, jx_nx, jm_wordOf_eq hk4, Option.bind_some, hw2, e38, if_pos hlast, jm_of_eq hk4 (show 6 < 9 by decide) (show 6 ≠ 2 by decide), jm_bendsAtom_eq hp6 a6, nI_add, jx_ga_nI (show 404 + hm < 412 by omega) (show 412 < 2 ^ 31 by decide)]
      by_cases hb : jz_ba1 w pw (jz_O w (pa (m - 1)) 6)
      · rw [jt_if hb, jt_if hb]
        obtain ⟨x, hx, ex⟩ := a6
        rw [ex] at hb ⊢
        rcases Nat.lt_or_ge x 1000 with g | g
        · exact absurd hb.1 (nI_ge g (by decide))
        · rw [pk_sub g, nI_clamp (by omega), jx_ga_nI (by omega) (by decide)]
      · rw [jt_ifn hb, jt_ifn hb]
    rw [hbat]
    by_cases hb : jz_ba1 w pw (jz_O w (pa (m - 1)) 6)
    · rw [jt_if hb, Option.bind_some, htail (jm_setA t2 16 (upd (t2.2.1 16) (jz_O w (pa (m - 1)) 6 - nI 1000).toNatClampNeg (w (404 + hm)))) hw2 rfl]
      have hv : jz_v ((jm_setA t2 16 (upd (t2.2.1 16) (jz_O w (pa (m - 1)) 6 - nI 1000).toNatClampNeg (w (404 + hm)))).2.1 16) (jz_O w (pa (m - 1)) 6) = w (404 + hm) := by
        show jz_v (upd (t2.2.1 16) (jz_O w (pa (m - 1)) 6 - nI 1000).toNatClampNeg (w (404 + hm))) (jz_O w (pa (m - 1)) 6) = _
        unfold jz_v
        rw [if_neg (fun z => by
          have h1 := hb.1
          rw [Int32.lt_iff_toInt_lt] at z
          rw [Int32.le_iff_toInt_le] at h1
          omega), pk_us]
      rw [jt_p hv, jt_p (Or.inr hb)]
      refine jw2_some ?_
      exact ⟨rfl, Or.inr rfl, hf, hk.setA (by decide)⟩
    · rw [jt_ifn hb, Option.bind_some, htail t2 hw2 rfl, ev]
      have e : (jz_v (c2.2.2.1 5 1) (jz_O w (pa (m - 1)) 6) = w (404 + hm) ∨ jz_ba1 w pw (jz_O w (pa (m - 1)) 6)) ↔ jz_v (c2.2.2.1 5 1) (jz_O w (pa (m - 1)) 6) = w (404 + hm) := ⟨fun z => by rcases z with z | z; exact z; exact absurd z hb, Or.inl⟩
      rw [jt_congr e]
      refine jw2_some ?_
      refine ⟨rfl, ?_, hf, hk⟩
      by_cases hv : jz_v (c2.2.2.1 5 1) (jz_O w (pa (m - 1)) 6) = w (404 + hm)
      · exact Or.inr (jt_p hv)
      · exact Or.inl (jt_n hv)
  · -- an order on the way
    rintro r1 r2 i ⟨c2, t2⟩ hi ⟨hf, hk, h9, h10, h14, h18, d, sd, hsd, hM⟩ ih
    dsimp only at hf hk h9 h10 h14 h18 hM
    have hC2 : jx_C 3 c2 w n b p h := hf.C (by decide) hC
    have e10 : c2.1 0 10 = nI m := by rw [hf.1 0 (by decide)]; exact c10
    have e05 : c2.2.2.1 0 = c.2.2.1 0 := hf.2.2.1 0 (by decide)
    have e38 : t2.1 38 = nI m := (hk.1 38 (by decide)).trans t38
    have e36 : t2.2.1 36 = t.2.1 36 := hk.2.1 36 (by decide)
    have hw2 : t2.2.1 1 = w := (hk.2.1 1 (by decide)).trans hw
    obtain ⟨hpn, hpc, hpt⟩ := hpa i (by omega)
    obtain ⟨hpn', hpc', hpt'⟩ := hpa (i + 1) (by omega)
    have hRe := hpR i (by omega)
    have hk4 : pa i < 40 := by omega
    obtain ⟨cb, tb, g1, g2, hMb, gf, gI, gtI, gk⟩ := jx_bat (F := F) (hm := hm) hW hC2 hw2 hp hpn hpn' hM (show i + 1 < m by omega) hm40 e38 (by rw [e36]; exact hpt) (by rw [e36]; exact hpt')
    have hCb : jx_C 3 cb w n b p h := gf.C (by decide) hC2
    have hLb : jp_LN 3 n (jz_O w) cb := (hf.trans gf).LN (by decide) hL
    have hwb : tb.2.1 1 = w := (gk.2.1 1 (by simp)).trans hw2
    obtain ⟨rc, hrc, hrc2⟩ := hCb.1.2 _ hpn
    obtain ⟨rc', hrc', hrc2'⟩ := hC2.1.2 _ hpn
    have hwr : ∃ wd : Nat, wd < 10 ∧ rc' 0 = nI wd := by rw [hrc2' 0 (by decide) (by decide)]; exact (ho _ hpn).wd
    have hno9 : ¬ jz_O w (pa i) 0 = nI 9 := by
      intro z
      obtain ⟨-, h1⟩ := hRe
      rw [z] at h1
      rcases h1 with h1 | h1 | h1 | h1 | h1
      · rcases h1.1 with h | h <;> exact absurd h (by decide)
      · exact absurd h1.1 (by decide)
      · rcases h1.1 with h | h | h <;> exact absurd h (by decide)
      · exact absurd h1.1 (by decide)
      · rcases h1.1 with h | h <;> exact absurd h (by decide)
    obtain ⟨⟨hd, h8, h21, h12, h25⟩, m1, m2, m3, m4⟩ := id hMb
    have ib9 : cb.1 5 9 = nI (pa i) := by rw [gI]; exact h9
    have ib13 : cb.1 3 13 = nI n := hCb.1.1
    have eb05 : cb.2.2.1 0 = c.2.2.1 0 := (gf.2.2.1 0 (by decide)).trans e05
    have eb36 : tb.2.1 36 = t.2.1 36 := (gk.2.1 36 (by simp)).trans e36
    have hkb : jm_k jx_tI jx_tA [] t tb := hk.trans (gk.wd (by simp) (by decide) (by simp))
    have hfb : jx_f5 c cb := hf.trans gf
    -- the component's test of the way
    let way : Prop := ¬ jz_O w (pa i) 0 = nI 7 ∨ jz_gr w (pa i) < 3 ∨ d = 0 ∨ cb.2.2.1 5 4 (d - 1) = nI (pa (i + 1))
    obtain ⟨hg4, hg2⟩ := jz_gr_eq hW hpn
    have hcomp : jf_tried_L17 F r1 (nI pw) (w (404 + hm)) (nI i) c2 = jf_tried_b133 F r1 (nI pw) (w (404 + hm)) (nI i) (jt way) cb := by
      unfold jf_tried_L17 jf_tried_b128
      have hcond : ¬ nI m ≤ nI (i + 1) := nI_ge (by omega) (by omega)
      simp only [e10, nI_add, if_neg hcond, jx_ga_nI (show i < 40 by omega) (show 40 < 2 ^ 31 by decide), jx_ga_nI (show i + 1 < 40 by omega) (show 40 < 2 ^ 31 by decide), e05, hpc, hpc', jx_ga_nI hk4 (show 40 < 2 ^ 31 by decide), hrc', Option.bind_some, g1, jv_word_eq hwr, hrc2' 0 (by decide) (by decide), eb05, h8, jn_eq0 (show d < 2 ^ 31 by omega)]
      by_cases w7 : jz_O w (pa i) 0 = nI 7
      · rw [if_pos w7, hCb.2.1 _ hpn, hg2]
        by_cases g3 : jz_gr w (pa i) < 3
        · rw [if_pos (nI_lt g3 (by decide)), jt_p (p := way) (Or.inr (Or.inl g3))]
        · rw [if_neg (nI_nlt (Nat.le_of_not_lt g3) (by omega))]
          by_cases hd0 : d = 0
          · rw [if_pos hd0, jt_p (p := way) (Or.inr (Or.inr (Or.inl hd0)))]
          · rw [if_neg hd0, pk_sub (by omega), jx_ga_nI (by omega) (by decide)]
            by_cases hs : cb.2.2.1 5 4 (d - 1) = nI (pa (i + 1))
            · rw [if_pos hs, jt_p (p := way) (Or.inr (Or.inr (Or.inr hs)))]
            · rw [if_neg hs, jt_n]
              rintro (z | z | z | z)
              · exact z w7
              · exact g3 z
              · exact hd0 z
              · exact hs z
      · rw [if_neg w7, jt_p (p := way) (Or.inl w7)]
    -- the twin up to the trap
    have htr := jm_isTrapped_eq (F := F) (t := tb) (d := d) (by rw [hwb]; exact hV) hpn hd h21
    rw [hwb] at htr
    show jw2 (jf_tried_L17 F r1 (nI pw) (w (404 + hm)) (nI i) c2) (jm_isTried_L6 F r2 (nI pw) (nI hm) (nI i) t2) _
    rw [hcomp]
    unfold jm_isTried_L6 jf_tried_b133
    have hge : ¬ nI m ≤ nI i := nI_ge (by omega) (by omega)
    have e38b : tb.1 38 = nI m := by rw [gtI]; exact e38
    have hnl : ¬ nI i = nI m - nI 1 := by rw [pk_sub hm1, nI_eq (by omega) (by omega)]; omega
    simp only [e38, if_neg hge, jx_ga_nI (show i < 40 by omega) (show 40 < 2 ^ 31 by decide), e36, hpt, jx_nx, g2, Option.bind_some, htr, e38b, if_neg hnl, jm_wordOf_eq hk4, hwb, jm_of_2 hk4, hg2, nI_add, jx_ga_nI (show i + 1 < 40 by omega) (show 40 < 2 ^ 31 by decide)]
    rcases jx_do0 (F := F) hW hCb hLb hwb hMb (by omega) (by rw [gI]; exact h14) (by rw [gI]; exact h18) hpn hrc2 hno9 with ⟨hT, hdo⟩ | ⟨hT, to, c3, t3, d', sd', hdo, hdt, hM3, hsd3, i14, i10, i18, hf3, hk3⟩
    · rw [jk_step_end ib9 hn ib13 hpn hrc hdo (by show ¬ nI 3 = nI 4; decide) (by show ¬ nI 3 = (0 : Int32); decide), Option.bind_some, jt_if hT]
      show jw2 (if nI 0 = (0 : Int32) then _ else _) _ _
      rw [if_pos (by decide)]
      refine jw2_some ?_
      exact ⟨rfl, Or.inl rfl, hfb.I.I, hkb⟩
    · rw [jk_step_go ib9 hn ib13 hpn hrc hdo i14 (by rw [i10, gI]; exact h10) (by omega), Option.bind_some, jt_ifn hT]
      show jw2 (if nI 1 = (0 : Int32) then _ else _) _ _
      rw [if_neg (by decide)]
      have e59 : (jx_c2 c3 (pa i) i to).1 5 9 = to := rfl
      have e5p : (jx_c2 c3 (pa i) i to).2.2.1 0 5 (i + 1) = nI (pa (i + 1)) := by
        show c3.2.2.1 0 5 (i + 1) = _
        rw [hf3.2.2.1 0 (by decide), eb05]; exact hpc'
      simp only [e59, e5p]
      have hf4 : jx_f5 c (jx_c2 c3 (pa i) i to) := (hfb.trans hf3).A.I.I
      have hk4' : jm_k jx_tI jx_tA [] t t3 := hkb.trans (hk3.wd (by decide) (by decide) (by simp))
      -- the twin's does
      have hb127 : jm_isTried_b127 F r2 (nI pw) (nI hm) (nI i) (nI (pa i)) tb = if to = nI (pa (i + 1)) then r2 (nI pw, nI hm, nI (i + 1), t3) else some (nI 0, t3) := by
        unfold jm_isTried_b127
        have e36c : t3.2.1 36 (i + 1) = nI (pa (i + 1)) := by rw [hk3.2.1 36 (by decide), eb36]; exact hpt'
        simp only [hdt, Option.bind_some, nI_add, jx_ga_nI (show i + 1 < 40 by omega) (show 40 < 2 ^ 31 by decide), e36c, jx_nx]
      have hgo : jw2 (r1 (nI pw, w (404 + hm), nI (i + 1), jx_c2 c3 (pa i) i to)) (r2 (nI pw, nI hm, nI (i + 1), t3)) (fun q q' => q.1 = q'.1 ∧ (q.1 = nI 0 ∨ q.1 = nI 1) ∧ jx_f5 c q.2 ∧ jm_k jx_tI jx_tA [] t q'.2) ∨ ¬ to = nI (pa (i + 1)) := by
        by_cases e : to = nI (pa (i + 1))
        · left
          refine ih (jx_c2 c3 (pa i) i to, t3) ⟨hf4, hk4', e, rfl, i14, (show c3.1 5 18 = 0 by rw [i18, gI]; exact h18), d', sd', by omega, ?_⟩
          exact hM3.kc rfl rfl rfl |>.kc rfl rfl rfl |> fun z => by
            obtain ⟨z1, z2, z3, z4, z5⟩ := hM3
            exact ⟨z1, z2, z3, z4, z5⟩
        · exact Or.inr e
      have hsec : 0 < d → cb.2.2.1 5 4 (d - 1) = tb.2.1 20 (d - 1) := fun z => (m3 (d - 1) (by omega)).2.2
      have hnd : jz_O w (pa i) 0 = nI 7 → 0 < d := fun z => Nat.pos_of_ne_zero (fun e => hT (Or.inr (Or.inr ⟨z, e⟩)))
      by_cases hway : way
      · rw [jt_if hway]
        have htwin : (if jz_O w (pa i) 0 = nI 7 then if nI (jz_gr w (pa i)) = nI 3 then jx_ga (tb.1 21 - nI 1) 8 fun j12 => if tb.2.1 20 j12 = tb.2.1 36 (i + 1) then jm_isTried_b127 F r2 (nI pw) (nI hm) (nI i) (nI (pa i)) tb else some (nI 0, tb) else jm_isTried_b127 F r2 (nI pw) (nI hm) (nI i) (nI (pa i)) tb else jm_isTried_b127 F r2 (nI pw) (nI hm) (nI i) (nI (pa i)) tb) = jm_isTried_b127 F r2 (nI pw) (nI hm) (nI i) (nI (pa i)) tb := by
          by_cases w7 : jz_O w (pa i) 0 = nI 7
          · rw [if_pos w7]
            by_cases g3 : nI (jz_gr w (pa i)) = nI 3
            · rw [if_pos g3, h21, pk_sub (hnd w7), jx_ga_nI (by omega) (by decide), eb36, hpt', ← hsec (hnd w7)]
              rw [nI_eq (by omega) (by decide)] at g3
              have : cb.2.2.1 5 4 (d - 1) = nI (pa (i + 1)) := by
                rcases hway with z | z | z | z
                · exact absurd w7 z
                · omega
                · have := hnd w7; omega
                · exact z
              rw [if_pos this]
            · rw [if_neg g3]
          · rw [if_neg w7]
        rw [htwin, hb127]
        by_cases e : to = nI (pa (i + 1))
        · simp only [if_pos e]
          rcases hgo with z | z
          · exact z
          · exact absurd e z
        · simp only [if_neg e]
          refine jw2_some ?_
          exact ⟨rfl, Or.inl rfl, hf4, hk4'⟩
      · rw [jt_ifn hway]
        have w7 : jz_O w (pa i) 0 = nI 7 := Classical.byContradiction fun z => hway (Or.inl z)
        have g3 : jz_gr w (pa i) = 3 := by
          have : ¬ jz_gr w (pa i) < 3 := fun z => hway (Or.inr (Or.inl z))
          omega
        have hs : ¬ cb.2.2.1 5 4 (d - 1) = nI (pa (i + 1)) := fun z => hway (Or.inr (Or.inr (Or.inr z)))
        rw [if_pos w7, if_pos (show nI (jz_gr w (pa i)) = nI 3 by rw [g3]), h21, pk_sub (hnd w7), jx_ga_nI (by omega) (by decide), eb36, hpt', ← hsec (hnd w7), if_neg hs]
        by_cases e : to = nI (pa (i + 1))
        · simp only [if_pos e]
          refine jw2_some ?_
          exact ⟨rfl, Or.inl rfl, hf4, hkb⟩
        · simp only [if_neg e]
          refine jw2_some ?_
          exact ⟨rfl, Or.inl rfl, hf4, hkb⟩
