/-! runs: jumps and what orders do, both sides -/
set_option maxRecDepth 100000
theorem jk_isLet_eq {F n b p h k d g : Nat} {c : jf_S} {w : Nat → Int32} {to : Int32} (hV : jz_V w n) (hC : jx_C 3 c w n b p h) (hL : jp_LN 3 n (jz_O w) c) (hk : k < n) (hj : jz_j (jz_O w) k) (hd : d ≤ 8) (h8 : c.1 5 8 = nI d) (h7 : jz_O w k 0 = nI 7 → 0 < d) (hg : g < 4) (h2 : w (8 + 9 * k + 2) = nI g) : jk_isLet F (nI k) to c = some (jt (jx_ok n (jz_O w) k g (c.2.2.1 5 4 (d - 1)) to), c) := by
  obtain ⟨hn, h0, ho⟩ := id hV
  obtain ⟨hR, hG, -⟩ := id hC
  obtain ⟨rc, hrc, hrc2⟩ := hR.2 k hk
  have hk4 : k < 40 := by omega
  have hw : ∃ wd : Nat, wd < 10 ∧ rc 0 = nI wd := by rw [hrc2 0 (by decide) (by decide)]; exact (ho k hk).wd
  have hb : ¬ g = 0 → ¬ (jz_O w k 0 = nI 7 ∧ g = 3) → jk_isLet_b73 F (nI k) to (nI g) c = some (jt (jx_ok n (jz_O w) k g (c.2.2.1 5 4 (d - 1)) to), c) := by
    intro g0 gn
    unfold jk_isLet_b73
    simp only [hR.1]
    have hno : ¬ (∃ j : Nat, j < n ∧ to = nI j) → jt (jx_ok n (jz_O w) k g (c.2.2.1 5 4 (d - 1)) to) = nI 0 := by
      intro hx
      refine jt_n ?_
      rintro (z | z | ⟨-, -, j', hj', e', z⟩)
      · exact g0 z
      · exact gn ⟨z.1, z.2.1⟩
      · exact hx ⟨j', hj', e'⟩
    rcases pk_ix to (show n < 2 ^ 31 by omega) with h1 | h1 | ⟨j, hj', e⟩
    · rw [if_pos h1, hno]
      rintro ⟨j, hj', e⟩
      subst e
      exact nI_pos (by omega) h1
    · by_cases h3 : to < 0
      · rw [if_pos h3, hno]
        rintro ⟨j, hj', e⟩
        subst e
        exact nI_pos (by omega) h3
      · rw [if_neg h3, if_pos h1, hno]
        rintro ⟨j, hj', e⟩
        subst e
        exact nI_ge hj' (by omega) h1
    · subst e
      obtain ⟨v, ev, hv⟩ := jp_lets_sp (F := F) (g := g) hn hR.1 hL hk hj hg
      rw [if_neg (nI_pos (by omega)), if_neg (nI_ge hj' (by omega)), ev]
      simp only [Option.bind_some, jb_has (show j < 64 by omega)]
      by_cases hb : jb v j = true
      · have hlt := (hv j (by omega)).mp hb
        rw [if_pos hb, jt_p (p := jx_ok _ _ _ _ _ _) (Or.inr (Or.inr ⟨g0, gn, j, hj', rfl, hlt⟩))]
      · rw [if_neg hb, jt_n]
        rintro (z | z | ⟨-, -, j', hj'', e', z⟩)
        · exact g0 z
        · exact gn ⟨z.1, z.2.1⟩
        · rw [nI_eq (by omega) (by omega)] at e'
          subst e'
          exact hb ((hv j (by omega)).mpr z)
  unfold jk_isLet jk_isLet_b38
  simp only [jx_ga_nI hk4 (show 40 < 2 ^ 31 by decide), jx_nx, hG k hk, h2, hrc, Option.bind_some, jv_word_eq hw, hrc2 0 (by decide) (by decide), jn_eq0 (show g < 2 ^ 31 by omega), nI_eq (b := 3) (show g < 2 ^ 31 by omega) (by decide), h8]
  by_cases g0 : g = 0
  · rw [if_pos g0, jt_p (p := jx_ok _ _ _ _ _ _) (Or.inl g0)]
  · rw [if_neg g0]
    by_cases w7 : jz_O w k 0 = nI 7
    · have hd0 := h7 w7
      rw [if_pos w7, if_neg (by decide)]
      by_cases g3 : g = 3
      · rw [if_pos g3, pk_sub hd0, jx_ga_nI (by omega) (by decide)]
        by_cases e : to = c.2.2.1 5 4 (d - 1)
        · rw [if_pos e, jt_p (p := jx_ok _ _ _ _ _ _) (Or.inr (Or.inl ⟨w7, g3, e⟩))]
        · rw [if_neg e, jt_n]
          rintro (z | z | z)
          · exact g0 z
          · exact e z.2.2
          · exact z.2.1 ⟨w7, g3⟩
      · rw [if_neg g3]
        exact hb g0 (fun z => g3 z.2)
    · rw [if_neg w7, if_pos (by decide)]
      exact hb g0 (fun z => w7 z.1)
def jx_cL (c : jf_S) (tk : Int32) : jf_S := jf_setI (jf_setI c 5 13 (c.1 5 13 + nI 1)) 5 11 (c.1 5 11 + tk)
noncomputable def jx_fb (p : Prop) (c : jf_S) : jf_S := @ite _ (¬ p ∧ c.1 5 17 = (-1 : Int32)) (Classical.propDecidable _) (jf_setI c 5 17 (c.1 5 13)) c
def jx_cG (c : jf_S) (to ld : Int32) : jf_S := jf_setI (jf_setI (jf_setI c 5 14 (nI 1)) 5 16 to) 5 15 ld
/-- which bend wrote what the jump goes by -/
def jx_ld (w f g : Nat → Int32) (k d : Nat) : Int32 := if jz_O w k 0 = nI 7 then g (d - 1) else f (jz_cl (jz_O w) k)
theorem jk_lands_eq {F n b p h k d g : Nat} {c : jf_S} {w : Nat → Int32} {to : Int32} (hV : jz_V w n) (hC : jx_C 3 c w n b p h) (hL : jp_LN 3 n (jz_O w) c) (hk : k < n) (hj : jz_j (jz_O w) k) (hd : d ≤ 8) (h8 : c.1 5 8 = nI d) (h7 : jz_O w k 0 = nI 7 → 0 < d) (hg : g < 4) (h2 : w (8 + 9 * k + 2) = nI g) :
    ((jx_ok n (jz_O w) k g (c.2.2.1 5 4 (d - 1)) to ∨ c.1 5 18 = 0) → jk_lands F (nI k) to c = some (to, jx_cL (jx_fb (jx_ok n (jz_O w) k g (c.2.2.1 5 4 (d - 1)) to) c) (w (4 + g)))) ∧
    (¬ (jx_ok n (jz_O w) k g (c.2.2.1 5 4 (d - 1)) to ∨ c.1 5 18 = 0) → jk_lands F (nI k) to c = some (nI k, jx_cG c to (jx_ld w (c.2.2.1 5 2) (c.2.2.1 5 5) k d))) := by
  obtain ⟨hn, h0, ho⟩ := id hV
  obtain ⟨hR, hG, hT, -⟩ := id hC
  obtain ⟨rc, hrc, hrc2⟩ := hR.2 k hk
  have hk4 : k < 40 := by omega
  have hw : ∃ wd : Nat, wd < 10 ∧ rc 0 = nI wd := by rw [hrc2 0 (by decide) (by decide)]; exact (ho k hk).wd
  have hb96 : ∀ c2 : jf_S, c2.2 = c.2 → (c2.1 5 13 = c.1 5 13) → (c2.1 5 11 = c.1 5 11) → jk_lands_b96 F (nI k) to c2 = some (to, jx_cL c2 (w (4 + g))) := by
    intro c2 e2 e13 e11
    unfold jk_lands_b96
    simp only [jx_nx, jf_I2, e2, jx_ga_nI hk4 (show 40 < 2 ^ 31 by decide), hG k hk, h2, jx_ga_nI hg (show 4 < 2 ^ 31 by decide), hT g hg]
    rfl
  unfold jk_lands
  simp only [jk_isLet_eq hV hC hL hk hj hd h8 h7 hg h2, Option.bind_some]
  constructor
  · intro hok
    by_cases hp : jx_ok n (jz_O w) k g (c.2.2.1 5 4 (d - 1)) to
    · rw [jt_if hp, hb96 c rfl rfl rfl]
      unfold jx_fb
      rw [if_neg (fun z => z.1 hp)]
    · rw [jt_ifn hp]
      have h18 : c.1 5 18 = 0 := by rcases hok with h | h; exact absurd h hp; exact h
      rw [if_pos h18]
      unfold jx_fb
      by_cases h17 : c.1 5 17 = (-1 : Int32)
      · rw [if_pos h17, if_pos ⟨hp, h17⟩]
        simp only [jx_nx]
        exact hb96 _ rfl rfl rfl
      · rw [if_neg h17, if_neg (fun z => h17 z.2)]
        exact hb96 c rfl rfl rfl
  · intro hok
    have hp : ¬ jx_ok n (jz_O w) k g (c.2.2.1 5 4 (d - 1)) to := fun z => hok (Or.inl z)
    have h18 : ¬ c.1 5 18 = 0 := fun z => hok (Or.inr z)
    rw [jt_ifn hp, if_neg h18]
    obtain ⟨ce, hc, e5⟩ := (ho k hk).ce
    have hcl : jz_cl (jz_O w) k = ce := by unfold jz_cl; rw [e5, nI_clamp (by omega)]
    simp only [jx_nx, jx_ga_nI hk4 (show 40 < 2 ^ 31 by decide), jf_I2, hrc, Option.bind_some, jv_word_eq hw, hrc2 0 (by decide) (by decide), jv_cell_eq hw, hrc2 5 (by decide) (by decide), e5]
    unfold jx_ld jx_cG
    by_cases w7 : jz_O w k 0 = nI 7
    · have hd0 := h7 w7
      rw [if_pos w7, if_pos w7]
      have e8 : (jf_setI (jf_setI c 5 14 (nI 1)) 5 16 to).1 5 8 = nI d := h8
      rw [e8, pk_sub hd0, jx_ga_nI (by omega) (by decide)]
    · have h46 : jz_O w k 0 = nI 4 ∨ jz_O w k 0 = nI 6 := by
        rcases hj with h | h | h
        · exact Or.inl h
        · exact Or.inr h
        · exact absurd h w7
      rw [if_neg w7, if_neg w7, if_pos h46, jx_ga_nI hc (by decide), hcl]
/-! the twin does an order -/
theorem jm_does_0 {F n k ce : Nat} {t : jm_S} (hV : jz_V (t.2.1 1) n) (hk : k < n) (e0 : jz_O (t.2.1 1) k 0 = nI 0) (hc : ce < 16) (e5 : jz_O (t.2.1 1) k 5 = nI ce) : jm_does F (nI k) t = some (nI (k + 1), jx_tW t ce (jz_sum (t.2.1 16) (jz_O (t.2.1 1) k 6) (jz_O (t.2.1 1) k 7) (jz_O (t.2.1 1) k 8)).toInt32) := by
  obtain ⟨hn, h0, ho⟩ := id hV
  have hk4 : k < 40 := by omega
  unfold jm_does
  simp only [jm_of_eq hk4 (show 5 < 9 by decide) (show 5 ≠ 2 by decide), jm_wordOf_eq hk4, Option.bind_some, jx_nx, e5, e0, jm_sumOf_eq hn hk (ho k hk) e0, jm_writes_eq hc, nI_add]
  rw [if_pos trivial]
theorem jm_does_1 {F n k ce : Nat} {t : jm_S} (hV : jz_V (t.2.1 1) n) (hk : k < n) (e0 : jz_O (t.2.1 1) k 0 = nI 1) (hc : ce < 16) (e5 : jz_O (t.2.1 1) k 5 = nI ce) : jm_does F (nI k) t = some (nI (k + 1), jx_tW t ce (jz_O (t.2.1 1) k 4)) := by
  obtain ⟨hn, h0, ho⟩ := id hV
  have hk4 : k < 40 := by omega
  unfold jm_does
  simp only [jm_of_eq hk4 (show 5 < 9 by decide) (show 5 ≠ 2 by decide), jm_of_eq hk4 (show 4 < 9 by decide) (show 4 ≠ 2 by decide), jm_wordOf_eq hk4, Option.bind_some, jx_nx, e5, e0, jm_writes_eq hc, nI_add]
  rw [if_neg (by decide), if_pos trivial]
theorem jm_does_2 {F n k : Nat} {t : jm_S} (hV : jz_V (t.2.1 1) n) (hk : k < n) (e0 : jz_O (t.2.1 1) k 0 = nI 2) : jm_does F (nI k) t = some (jz_O (t.2.1 1) k 4, t) := by
  obtain ⟨hn, h0, ho⟩ := id hV
  have hk4 : k < 40 := by omega
  unfold jm_does
  simp only [jm_of_eq hk4 (show 5 < 9 by decide) (show 5 ≠ 2 by decide), jm_of_eq hk4 (show 4 < 9 by decide) (show 4 ≠ 2 by decide), jm_wordOf_eq hk4, Option.bind_some, jx_nx, e0]
  rw [if_neg (by decide), if_neg (by decide), if_pos trivial]
theorem jm_does_3 {F n k : Nat} {t : jm_S} (hV : jz_V (t.2.1 1) n) (hk : k < n) (e0 : jz_O (t.2.1 1) k 0 = nI 3) : (jz_so2 (t.2.1 16) (jz_O (t.2.1 1) k 6) (jz_O (t.2.1 1) k 7) (jz_O (t.2.1 1) k 8) → jm_does F (nI k) t = some (jz_O (t.2.1 1) k 4, t)) ∧ (¬ jz_so2 (t.2.1 16) (jz_O (t.2.1 1) k 6) (jz_O (t.2.1 1) k 7) (jz_O (t.2.1 1) k 8) → jm_does F (nI k) t = some (nI (k + 1), t)) := by
  obtain ⟨hn, h0, ho⟩ := id hV
  have hk4 : k < 40 := by omega
  unfold jm_does
  simp only [jm_of_eq hk4 (show 5 < 9 by decide) (show 5 ≠ 2 by decide), jm_of_eq hk4 (show 4 < 9 by decide) (show 4 ≠ 2 by decide), jm_wordOf_eq hk4, Option.bind_some, jx_nx, e0, jm_isSo_eq hn hk (ho k hk) e0, nI_add]
  rw [if_neg (by decide), if_neg (by decide), if_neg (by decide), if_pos trivial]
  exact ⟨fun h => jt_if h, fun h => jt_ifn h⟩
theorem jm_does_4 {F n k ce : Nat} {t : jm_S} (hV : jz_V (t.2.1 1) n) (hk : k < n) (e0 : jz_O (t.2.1 1) k 0 = nI 4) (hc : ce < 16) (e5 : jz_O (t.2.1 1) k 5 = nI ce) : jm_does F (nI k) t = some (t.2.1 16 ce, t) := by
  obtain ⟨hn, h0, ho⟩ := id hV
  have hk4 : k < 40 := by omega
  unfold jm_does
  simp only [jm_of_eq hk4 (show 5 < 9 by decide) (show 5 ≠ 2 by decide), jm_wordOf_eq hk4, Option.bind_some, jx_nx, e0, e5, jx_ga_nI hc (show 16 < 2 ^ 31 by decide)]
  rw [if_neg (by decide), if_neg (by decide), if_neg (by decide), if_neg (by decide), if_pos trivial]
theorem jm_does_5 {F n k d : Nat} {t : jm_S} (hV : jz_V (t.2.1 1) n) (hk : k < n) (e0 : jz_O (t.2.1 1) k 0 = nI 5) (hd : d < 8) (h21 : t.1 21 = nI d) : jm_does F (nI k) t = some (jz_O (t.2.1 1) k 4, jx_tP t d (nI (k + 1))) := by
  obtain ⟨hn, h0, ho⟩ := id hV
  have hk4 : k < 40 := by omega
  have e1 : (jx_tP t d (nI (k + 1))).2.1 1 = t.2.1 1 := rfl
  unfold jm_does
  simp only [jm_of_eq hk4 (show 5 < 9 by decide) (show 5 ≠ 2 by decide), jm_of_eq hk4 (show 4 < 9 by decide) (show 4 ≠ 2 by decide), jm_wordOf_eq hk4, Option.bind_some, jx_nx, e0, jm_keepsPlace_eq hd h21, e1]
  rw [if_neg (by decide), if_neg (by decide), if_neg (by decide), if_neg (by decide), if_neg (by decide), if_pos trivial]
theorem jm_does_6 {F n k d ce : Nat} {t : jm_S} (hV : jz_V (t.2.1 1) n) (hk : k < n) (e0 : jz_O (t.2.1 1) k 0 = nI 6) (hd : d < 8) (h21 : t.1 21 = nI d) (hc : ce < 16) (e5 : jz_O (t.2.1 1) k 5 = nI ce) : jm_does F (nI k) t = some (t.2.1 16 ce, jx_tP t d (nI (k + 1))) := by
  obtain ⟨hn, h0, ho⟩ := id hV
  have hk4 : k < 40 := by omega
  unfold jm_does
  simp only [jm_of_eq hk4 (show 5 < 9 by decide) (show 5 ≠ 2 by decide), jm_wordOf_eq hk4, Option.bind_some, jx_nx, e0, e5, jm_keepsPlace_eq hd h21, jx_ga_nI hc (show 16 < 2 ^ 31 by decide)]
  rw [if_neg (by decide), if_neg (by decide), if_neg (by decide), if_neg (by decide), if_neg (by decide), if_neg (by decide), if_pos trivial]
  rfl
theorem jm_does_7 {F n k d : Nat} {t : jm_S} (hV : jz_V (t.2.1 1) n) (hk : k < n) (e0 : jz_O (t.2.1 1) k 0 = nI 7) (hd : d < 8) (h21 : t.1 21 = nI (d + 1)) : jm_does F (nI k) t = some (t.2.1 18 d, jm_setI t 21 (nI d)) := by
  obtain ⟨hn, h0, ho⟩ := id hV
  have hk4 : k < 40 := by omega
  unfold jm_does
  simp only [jm_of_eq hk4 (show 5 < 9 by decide) (show 5 ≠ 2 by decide), jm_wordOf_eq hk4, Option.bind_some, jx_nx, e0, h21, pk_sub (show 1 ≤ d + 1 by omega), jm_Ie, show d + 1 - 1 = d from rfl, jx_ga_nI hd (show 8 < 2 ^ 31 by decide)]
  rw [if_neg (by decide), if_neg (by decide), if_neg (by decide), if_neg (by decide), if_neg (by decide), if_neg (by decide), if_neg (by decide), if_pos trivial]
  rfl
theorem jm_does_8 {F n k sd : Nat} {t : jm_S} (hV : jz_V (t.2.1 1) n) (hk : k < n) (e0 : jz_O (t.2.1 1) k 0 = nI 8) (hd : sd < 300) (h25 : t.1 25 = nI sd) : jm_does F (nI k) t = some (nI (k + 1), jx_tS t sd (jz_v (t.2.1 16) (jz_O (t.2.1 1) k 6))) := by
  obtain ⟨hn, h0, ho⟩ := id hV
  have hk4 : k < 40 := by omega
  unfold jm_does
  simp only [jm_of_eq hk4 (show 5 < 9 by decide) (show 5 ≠ 2 by decide), jm_of_eq hk4 (show 6 < 9 by decide) (show 6 ≠ 2 by decide), jm_wordOf_eq hk4, Option.bind_some, jx_nx, e0, jm_valueOf_eq ((ho k hk).a6 (Or.inr (Or.inr e0))), h25, jx_ga_nI hd (show 300 < 2 ^ 31 by decide), nI_add, jm_A0]
  rw [if_neg (by decide), if_neg (by decide), if_neg (by decide), if_neg (by decide), if_neg (by decide), if_neg (by decide), if_neg (by decide), if_neg (by decide), if_pos trivial]
  rfl
theorem jm_does_9 {F n k : Nat} {t : jm_S} (hV : jz_V (t.2.1 1) n) (hk : k < n) (e0 : jz_O (t.2.1 1) k 0 = nI 9) : jm_does F (nI k) t = some (nI k, t) := by
  obtain ⟨hn, h0, ho⟩ := id hV
  have hk4 : k < 40 := by omega
  unfold jm_does
  simp only [jm_of_eq hk4 (show 5 < 9 by decide) (show 5 ≠ 2 by decide), jm_wordOf_eq hk4, Option.bind_some, jx_nx, e0]
  rw [if_neg (by decide), if_neg (by decide), if_neg (by decide), if_neg (by decide), if_neg (by decide), if_neg (by decide), if_neg (by decide), if_neg (by decide), if_neg (by decide)]
/-! the component does an order -/
theorem jv_does_0 {F k ce : Nat} {O : Nat → Nat → Int32} {r : jo_R} {c : jf_S} (hr : ∀ c, c < 9 → c ≠ 2 → r c = O k c) (ho : jz_or (O k)) (e0 : O k 0 = nI 0) (hc : ce < 16) (e5 : O k 5 = nI ce) : (jz_tr (jz_sum (c.2.2.1 5 1) (O k 6) (O k 7) (O k 8)) → jv_does F r (nI k) c = some (c.1 5 9, jf_setI c 5 14 (nI 3))) ∧ (¬ jz_tr (jz_sum (c.2.2.1 5 1) (O k 6) (O k 7) (O k 8)) → jv_does F r (nI k) c = some (nI (k + 1), jx_cW c ce (jz_sum (c.2.2.1 5 1) (O k 6) (O k 7) (O k 8)).toInt32)) := by
  have key : jv_does F r (nI k) c = jo9_does_b68 F r (nI k) (jz_sum (c.2.2.1 5 1) (O k 6) (O k 7) (O k 8)) c := by
    unfold jv_does
    rw [hr 0 (by decide) (by decide), if_pos e0]
    unfold jo9_does jo9_does_b30 jz_sum
    simp only [hr 6 (by decide) (by decide), hr 7 (by decide) (by decide), hr 8 (by decide) (by decide), ja_of_eq (ho.a6 (Or.inl e0)), Option.bind_some, jx_nx]
    rcases ho.s8 e0 with h8 | ⟨h8, h7⟩
    · rw [if_pos h8, if_pos h8, h8, if_neg (by decide), if_neg (by decide)]
      congr 1
      exact Int64.add_zero _
    · have hne : ¬ O k 8 = 0 := by rcases h8 with h | h | h <;> rw [h] <;> decide
      rw [if_neg hne, if_neg hne]
      unfold jx_gn
      rw [if_neg hne]
      simp only [ja_of_eq h7, Option.bind_some]
      rcases h8 with h | h | h
      · rw [h, if_neg (by decide), if_neg (by decide), if_pos rfl]
      · rw [h, if_pos rfl, if_neg (by decide), if_pos rfl]
      · rw [h, if_neg (by decide), if_pos rfl, if_neg (by decide), if_neg (by decide)]
  rw [key]
  unfold jo9_does_b68
  constructor
  · intro h
    rw [if_neg (fun z => (jl_abs jz_sum_min).mp z h), jk_trap_eq]
    rfl
  · intro h
    rw [if_pos ((jl_abs jz_sum_min).mpr h), hr 5 (by decide) (by decide), e5, jk_writes_eq hc, nI_add]
    rfl
theorem jv_does_1 {F k ce : Nat} {O : Nat → Nat → Int32} {r : jo_R} {c : jf_S} (hr : ∀ c, c < 9 → c ≠ 2 → r c = O k c) (e0 : O k 0 = nI 1) (hc : ce < 16) (e5 : O k 5 = nI ce) : jv_does F r (nI k) c = some (nI (k + 1), jx_cW c ce (O k 4)) := by
  unfold jv_does
  rw [hr 0 (by decide) (by decide), e0, if_neg (by decide), if_pos rfl]
  unfold jo10_does
  rw [hr 5 (by decide) (by decide), e5, hr 4 (by decide) (by decide), jk_writes_eq hc, nI_add]
  rfl
theorem jv_does_2 {F k : Nat} {O : Nat → Nat → Int32} {r : jo_R} {c : jf_S} (hr : ∀ c, c < 9 → c ≠ 2 → r c = O k c) (e0 : O k 0 = nI 2) : jv_does F r (nI k) c = some (O k 4, c) := by
  unfold jv_does
  rw [hr 0 (by decide) (by decide), e0, if_neg (by decide), if_neg (by decide), if_pos rfl]
  unfold jo11_does
  rw [hr 4 (by decide) (by decide)]
theorem jv_does_3 {F k : Nat} {O : Nat → Nat → Int32} {r : jo_R} {c : jf_S} (hr : ∀ c, c < 9 → c ≠ 2 → r c = O k c) (ho : jz_or (O k)) (e0 : O k 0 = nI 3) : (jz_so2 (c.2.2.1 5 1) (O k 6) (O k 7) (O k 8) → jv_does F r (nI k) c = some (O k 4, c)) ∧ (¬ jz_so2 (c.2.2.1 5 1) (O k 6) (O k 7) (O k 8) → jv_does F r (nI k) c = some (nI (k + 1), c)) := by
  unfold jv_does
  rw [hr 0 (by decide) (by decide), e0, if_neg (by decide), if_neg (by decide), if_neg (by decide), if_pos rfl]
  unfold jo12_does
  simp only [hr 6 (by decide) (by decide), hr 7 (by decide) (by decide), hr 8 (by decide) (by decide), hr 4 (by decide) (by decide), ja_of_eq (ho.a6 (Or.inr (Or.inl e0))), ja_of_eq (ho.a7 e0).1, Option.bind_some, jf_ifHolds_eq, nI_add]
  exact ⟨fun h => jt_if h, fun h => jt_ifn h⟩
theorem jv_does_5 {F k d : Nat} {O : Nat → Nat → Int32} {r : jo_R} {c : jf_S} (hr : ∀ c, c < 9 → c ≠ 2 → r c = O k c) (e0 : O k 0 = nI 5) (hd : d ≤ 8) (h8 : c.1 5 8 = nI d) : (d = 8 → jv_does F r (nI k) c = some (c.1 5 9, jf_setI c 5 14 (nI 3))) ∧ (d < 8 → jv_does F r (nI k) c = some (O k 4, jx_cP c d (nI (k + 1)))) := by
  unfold jv_does
  rw [hr 0 (by decide) (by decide), e0, if_neg (by decide), if_neg (by decide), if_neg (by decide), if_neg (by decide), if_neg (by decide), if_pos rfl]
  unfold jo14_does
  rw [h8, nI_add]
  constructor
  · intro h
    rw [h, if_pos rfl, jk_trap_eq]
    rfl
  · intro h
    rw [if_neg (fun z => by rw [nI_eq (by omega) (by decide)] at z; omega), jk_puts_eq h h8, hr 4 (by decide) (by decide)]
    rfl
theorem jv_does_8 {F k sd : Nat} {O : Nat → Nat → Int32} {r : jo_R} {c : jf_S} (hr : ∀ c, c < 9 → c ≠ 2 → r c = O k c) (ho : jz_or (O k)) (e0 : O k 0 = nI 8) (hd : sd < 300) (h8 : c.1 5 12 = nI sd) : jv_does F r (nI k) c = some (nI (k + 1), jx_cS c sd (jz_v (c.2.2.1 5 1) (O k 6))) := by
  unfold jv_does
  rw [hr 0 (by decide) (by decide), e0, if_neg (by decide), if_neg (by decide), if_neg (by decide), if_neg (by decide), if_neg (by decide), if_neg (by decide), if_neg (by decide), if_neg (by decide), if_pos rfl]
  unfold jo17_does
  simp only [hr 6 (by decide) (by decide), ja_of_eq (ho.a6 (Or.inr (Or.inr e0))), Option.bind_some, jk_says_eq hd h8, nI_add]
theorem jv_does_9 {F k : Nat} {O : Nat → Nat → Int32} {r : jo_R} {c : jf_S} (hr : ∀ c, c < 9 → c ≠ 2 → r c = O k c) (e0 : O k 0 = nI 9) : jv_does F r (nI k) c = some (nI k, jf_setI c 5 14 (nI 0)) := by
  unfold jv_does
  rw [hr 0 (by decide) (by decide), e0, if_neg (by decide), if_neg (by decide), if_neg (by decide), if_neg (by decide), if_neg (by decide), if_neg (by decide), if_neg (by decide), if_neg (by decide), if_neg (by decide), if_pos rfl]
  unfold jo18_does
  rfl
/-- a jump of the component: trapped, stopped by the guard, or done -/
noncomputable def jx_cJ (O : Nat → Nat → Int32) (k d : Nat) (c : jf_S) : jf_S := if O k 0 = nI 6 then jx_cP c d (nI (k + 1)) else if O k 0 = nI 7 then jf_setI c 5 8 (nI (d - 1)) else c
theorem jx_fb_2 {p : Prop} {c : jf_S} : (jx_fb p c).2 = c.2 := by
  unfold jx_fb
  by_cases h : ¬ p ∧ c.1 5 17 = (-1 : Int32)
  · rw [if_pos h]; rfl
  · rw [if_neg h]
theorem jx_fb_I {p : Prop} {c : jf_S} {k : Nat} (hk : k ≠ 17) : (jx_fb p c).1 5 k = c.1 5 k := by
  unfold jx_fb
  by_cases h : ¬ p ∧ c.1 5 17 = (-1 : Int32)
  · rw [if_pos h, jf_In (by omega)]
  · rw [if_neg h]
theorem jv_does_j {F n b p h k d g ce : Nat} {c : jf_S} {w : Nat → Int32} {r : jo_R} (hV : jz_V w n) (hC : jx_C 3 c w n b p h) (hL : jp_LN 3 n (jz_O w) c) (hk : k < n) (hr : ∀ c, c < 9 → c ≠ 2 → r c = jz_O w k c) (hj : jz_j (jz_O w) k) (hd : d ≤ 8) (h8 : c.1 5 8 = nI d) (hg : g < 4) (h2 : w (8 + 9 * k + 2) = nI g) (hc : ce < 16) (e5 : jz_O w k 5 = nI ce) (h14 : c.1 5 14 = nI 4) :
    (((jz_O w k 0 = nI 6 ∧ d = 8) ∨ (jz_O w k 0 = nI 7 ∧ d = 0)) → jv_does F r (nI k) c = some (c.1 5 9, jf_setI c 5 14 (nI 3))) ∧
    (¬ ((jz_O w k 0 = nI 6 ∧ d = 8) ∨ (jz_O w k 0 = nI 7 ∧ d = 0)) → (jx_ok n (jz_O w) k g (c.2.2.1 5 4 (d - 1)) (jx_to w (c.2.2.1 5 1) (c.2.2.1 5 3) k d) ∨ c.1 5 18 = 0) → jv_does F r (nI k) c = some (jx_to w (c.2.2.1 5 1) (c.2.2.1 5 3) k d, jx_cJ (jz_O w) k d (jx_cL (jx_fb (jx_ok n (jz_O w) k g (c.2.2.1 5 4 (d - 1)) (jx_to w (c.2.2.1 5 1) (c.2.2.1 5 3) k d)) c) (w (4 + g))))) ∧
    (¬ ((jz_O w k 0 = nI 6 ∧ d = 8) ∨ (jz_O w k 0 = nI 7 ∧ d = 0)) → ¬ (jx_ok n (jz_O w) k g (c.2.2.1 5 4 (d - 1)) (jx_to w (c.2.2.1 5 1) (c.2.2.1 5 3) k d) ∨ c.1 5 18 = 0) → jv_does F r (nI k) c = some (nI k, jx_cG c (jx_to w (c.2.2.1 5 1) (c.2.2.1 5 3) k d) (jx_ld w (c.2.2.1 5 2) (c.2.2.1 5 5) k d))) := by
  have hcl : jz_cl (jz_O w) k = ce := by unfold jz_cl; rw [e5, nI_clamp (by omega)]
  rcases hj with e0 | e0 | e0
  · -- through
    have hno : ¬ ((jz_O w k 0 = nI 6 ∧ d = 8) ∨ (jz_O w k 0 = nI 7 ∧ d = 0)) := by rw [e0]; rintro (z | z) <;> exact absurd z.1 (by decide)
    have h7 : jz_O w k 0 = nI 7 → 0 < d := fun z => by rw [e0] at z; exact absurd z (by decide)
    have hto : jx_to w (c.2.2.1 5 1) (c.2.2.1 5 3) k d = c.2.2.1 5 1 ce := by unfold jx_to; rw [if_neg (by rw [e0]; decide), hcl]
    have hv : jv_does F r (nI k) c = (jk_lands F (nI k) (c.2.2.1 5 1 ce) c) := by
      unfold jv_does
      rw [hr 0 (by decide) (by decide), e0, if_neg (by decide), if_neg (by decide), if_neg (by decide), if_neg (by decide), if_pos rfl]
      unfold jo13_does
      rw [hr 5 (by decide) (by decide), e5, jx_ga_nI hc (by decide)]
      cases jk_lands F (nI k) (c.2.2.1 5 1 ce) c <;> rfl
    obtain ⟨l1, l2⟩ := jk_lands_eq (F := F) (to := c.2.2.1 5 1 ce) hV hC hL hk (Or.inl e0) hd h8 h7 hg h2
    refine ⟨fun z => absurd z hno, fun _ z => ?_, fun _ z => ?_⟩
    · rw [hto] at z ⊢
      rw [hv, l1 z]
      unfold jx_cJ
      rw [if_neg (by rw [e0]; decide), if_neg (by rw [e0]; decide)]
    · rw [hto] at z ⊢
      rw [hv, l2 z]
  · -- by
    have h7 : jz_O w k 0 = nI 7 → 0 < d := fun z => by rw [e0] at z; exact absurd z (by decide)
    have hto : jx_to w (c.2.2.1 5 1) (c.2.2.1 5 3) k d = c.2.2.1 5 1 ce := by unfold jx_to; rw [if_neg (by rw [e0]; decide), hcl]
    have hv : jv_does F r (nI k) c = jo15_does F r (nI k) c := by
      unfold jv_does
      rw [hr 0 (by decide) (by decide), e0, if_neg (by decide), if_neg (by decide), if_neg (by decide), if_neg (by decide), if_neg (by decide), if_neg (by decide), if_pos rfl]
    obtain ⟨l1, l2⟩ := jk_lands_eq (F := F) (to := c.2.2.1 5 1 ce) hV hC hL hk (Or.inr (Or.inl e0)) hd h8 h7 hg h2
    unfold jo15_does jo13_does at hv
    rw [hr 5 (by decide) (by decide), e5, jx_ga_nI hc (by decide), h8] at hv
    refine ⟨fun z => ?_, fun hno z => ?_, fun hno z => ?_⟩
    · have hd8 : d = 8 := by rcases z with z | z; exact z.2; rw [e0] at z; exact absurd z.1 (by decide)
      rw [hv, hd8, if_pos rfl, jk_trap_eq]
      rfl
    · have hd8 : d < 8 := by
        refine Nat.lt_of_le_of_ne hd (fun e => hno (Or.inl ⟨e0, e⟩))
      rw [hto] at z ⊢
      rw [hv, if_neg (fun z => by rw [nI_eq (by omega) (by decide)] at z; omega), l1 z]
      simp only [Option.bind_some, jx_nx, nI_add]
      have e14 : (jx_cL (jx_fb (jx_ok n (jz_O w) k g (c.2.2.1 5 4 (d - 1)) (c.2.2.1 5 1 ce)) c) (w (4 + g))).1 5 14 = nI 4 := (jx_fb_I (by decide)).trans h14
      have e8 : (jx_cL (jx_fb (jx_ok n (jz_O w) k g (c.2.2.1 5 4 (d - 1)) (c.2.2.1 5 1 ce)) c) (w (4 + g))).1 5 8 = nI d := (jx_fb_I (by decide)).trans h8
      rw [if_pos e14, jk_puts_eq hd8 e8]
      unfold jx_cJ
      rw [if_pos e0]
      rfl
    · have hd8 : d < 8 := by
        refine Nat.lt_of_le_of_ne hd (fun e => hno (Or.inl ⟨e0, e⟩))
      rw [hto] at z ⊢
      rw [hv, if_neg (fun z => by rw [nI_eq (by omega) (by decide)] at z; omega), l2 z]
      simp only [Option.bind_some, jx_nx, nI_add]
      have e14 : ¬ (jx_cG c (c.2.2.1 5 1 ce) (jx_ld w (c.2.2.1 5 2) (c.2.2.1 5 5) k d)).1 5 14 = nI 4 := by show ¬ nI 1 = nI 4; decide
      rw [if_neg e14]
  · -- back
    have hv : jv_does F r (nI k) c = jo16_does F r (nI k) c := by
      unfold jv_does
      rw [hr 0 (by decide) (by decide), e0, if_neg (by decide), if_neg (by decide), if_neg (by decide), if_neg (by decide), if_neg (by decide), if_neg (by decide), if_neg (by decide), if_pos rfl]
    have hto : jx_to w (c.2.2.1 5 1) (c.2.2.1 5 3) k d = c.2.2.1 5 3 (d - 1) := by unfold jx_to; rw [if_pos e0]
    unfold jo16_does at hv
    rw [h8] at hv
    simp only [jn_eq0 (show d < 2 ^ 31 by omega)] at hv
    refine ⟨fun z => ?_, fun hno z => ?_, fun hno z => ?_⟩
    · have hd0 : d = 0 := by rcases z with z | z; rw [e0] at z; exact absurd z.1 (by decide); exact z.2
      rw [hv, if_pos hd0, jk_trap_eq]
      rfl
    · have hd0 : 0 < d := Nat.pos_of_ne_zero (fun e => hno (Or.inr ⟨e0, e⟩))
      obtain ⟨l1, l2⟩ := jk_lands_eq (F := F) (to := c.2.2.1 5 3 (d - 1)) hV hC hL hk (Or.inr (Or.inr e0)) hd h8 (fun _ => hd0) hg h2
      rw [hto] at z ⊢
      rw [hv, if_neg (by omega), pk_sub hd0, jx_ga_nI (by omega) (by decide), l1 z]
      simp only [Option.bind_some, jx_nx]
      have e14 : (jx_cL (jx_fb (jx_ok n (jz_O w) k g (c.2.2.1 5 4 (d - 1)) (c.2.2.1 5 3 (d - 1))) c) (w (4 + g))).1 5 14 = nI 4 := (jx_fb_I (by decide)).trans h14
      have e8 : (jx_cL (jx_fb (jx_ok n (jz_O w) k g (c.2.2.1 5 4 (d - 1)) (c.2.2.1 5 3 (d - 1))) c) (w (4 + g))).1 5 8 = nI d := (jx_fb_I (by decide)).trans h8
      rw [if_pos e14, e8, pk_sub hd0]
      unfold jx_cJ
      rw [if_neg (by rw [e0]; decide), if_pos e0]
    · have hd0 : 0 < d := Nat.pos_of_ne_zero (fun e => hno (Or.inr ⟨e0, e⟩))
      obtain ⟨l1, l2⟩ := jk_lands_eq (F := F) (to := c.2.2.1 5 3 (d - 1)) hV hC hL hk (Or.inr (Or.inr e0)) hd h8 (fun _ => hd0) hg h2
      rw [hto] at z ⊢
      rw [hv, if_neg (by omega), pk_sub hd0, jx_ga_nI (by omega) (by decide), l2 z]
      simp only [Option.bind_some, jx_nx]
      have e14 : ¬ (jx_cG c (c.2.2.1 5 3 (d - 1)) (jx_ld w (c.2.2.1 5 2) (c.2.2.1 5 5) k d)).1 5 14 = nI 4 := by show ¬ nI 1 = nI 4; decide
      rw [if_neg e14]
