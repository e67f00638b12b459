/-! the twin: where one with a power may go; what is closed; doors -/
set_option maxRecDepth 100000
theorem jm_bendsRow_eq {F pw : Nat} {t : jm_S} (hp : pw < 6) : jm_bendsRow F (nI pw) t = some (jt (jz_rw (t.2.1 1) pw), t) := by
  unfold jm_bendsRow
  simp only [pk_mul, nI_add, jx_ga_nI (show 392 + 2 * pw + 1 < 412 by omega) (show 412 < 2 ^ 31 by decide)]
  by_cases h : jz_rw (t.2.1 1) pw
  · rw [jt_p h]; exact if_pos h
  · rw [jt_n h]; exact if_neg h
theorem jm_bendsCell_eq {F pw : Nat} {x : Int32} {t : jm_S} (hp : pw < 6) : jm_bendsCell F (nI pw) x t = some (jt ((t.2.1 1 (392 + 2 * pw) >>> (x &&& 31)) &&& nI 1 = nI 1), t) := by
  unfold jm_bendsCell
  simp only [pk_mul, nI_add, jx_ga_nI (show 392 + 2 * pw < 412 by omega) (show 412 < 2 ^ 31 by decide)]
  by_cases h : (t.2.1 1 (392 + 2 * pw) >>> (x &&& 31)) &&& nI 1 = nI 1
  · rw [if_pos h, jt_p h]
  · rw [if_neg h, jt_n h]
theorem jm_mayFrom_sp {F n k g pw : Nat} {t : jm_S} {w : Nat → Int32} (hF : 1000 ≤ F) (hV : jz_V w n) (hw : t.2.1 1 = w) (hT : jm_FL n t) (hk : k < n) (hp : pw < 6) (hg : g < 4) (hgr : t.2.1 34 k = nI g) : ∃ v, jm_mayFrom F (nI k) (nI pw) t = some (v, t) ∧ ∀ j, j < n → (jb v j = true ↔ jz_my n (jz_O w) k g (jz_bc w pw k) (jz_rw w pw) j) := by
  obtain ⟨hn, h0, ho⟩ := id hV
  have hVt : jz_V (t.2.1 1) n := by rw [hw]; exact hV
  obtain ⟨wd, hwd, e0⟩ := (ho k hk).wd
  have hk4 : k < 40 := by omega
  obtain ⟨ce, hce, e5⟩ := (ho k hk).ce
  have hcl : jz_cl (jz_O w) k = ce := by unfold jz_cl; rw [e5, nI_clamp (by omega)]
  have hn1 : ∀ j, jb (lN 1 <<< ((nI (k + 1)).toInt64 &&& 63)) j = true ↔ j = k + 1 := fun j => by rw [jb_sh (by omega)]; simp
  -- behind the place
  have hb34 : ∀ pl : Int64, ((wd = 1 ∨ wd = 2 ∨ wd = 3 ∨ wd = 5) → ∀ j, j < n → (jb pl j = true ↔ jz_O w k 4 = nI j)) → ∃ v, jm_mayFrom_b34 F (nI k) (nI pw) (nI wd) (lN 1 <<< ((nI (k + 1)).toInt64 &&& 63)) pl t = some (v, t) ∧ ∀ j, j < n → (jb v j = true ↔ jz_my n (jz_O w) k g (jz_bc w pw k) (jz_rw w pw) j) := by
    intro pl hpl
    unfold jm_mayFrom_b34
    simp only [nI_eq (b := 9) (show wd < 2 ^ 31 by omega) (by decide), nI_eq (b := 2) (show wd < 2 ^ 31 by omega) (by decide), nI_eq (b := 5) (show wd < 2 ^ 31 by omega) (by decide), nI_eq (b := 3) (show wd < 2 ^ 31 by omega) (by decide), nI_eq (b := 7) (show wd < 2 ^ 31 by omega) (by decide)]
    by_cases w9 : wd = 9
    · rw [if_pos w9]
      refine ⟨_, rfl, fun j hj => ?_⟩
      rw [jb_0, jz_my_w hwd e0]
      simp [w9]
    rw [if_neg w9]
    by_cases w2 : wd = 2
    · rw [if_pos w2]
      refine ⟨_, rfl, fun j hj => ?_⟩
      rw [hpl (by omega) j hj, jz_my_w hwd e0]
      simp [w2, hj]
    rw [if_neg w2]
    by_cases w5 : wd = 5
    · rw [if_pos w5]
      refine ⟨_, rfl, fun j hj => ?_⟩
      rw [hpl (by omega) j hj, jz_my_w hwd e0]
      simp [w5, hj]
    rw [if_neg w5]
    by_cases w3 : wd = 3
    · rw [if_pos w3]
      have e3 : jz_O w k 0 = nI 3 := by rw [e0, w3]
      obtain ⟨x, hx6, e6⟩ := (ho k hk).a6 (Or.inr (Or.inl e3))
      obtain ⟨⟨y, hy7, e7⟩, -⟩ := (ho k hk).a7 e3
      unfold jm_mayFrom_b92 jm_mayFrom_b93
      simp only [jm_of_eq hk4 (show 6 < 9 by decide) (show 6 ≠ 2 by decide), jm_of_eq hk4 (show 7 < 9 by decide) (show 7 ≠ 2 by decide), Option.bind_some, hw, e6, e7]
      have hboth : ¬ (jz_O w k 6 < nI 1000 ∧ jz_O w k 7 < nI 1000) → ∃ v, (if nI 0 = (0 : Int32) then some ((lN 1 <<< ((nI (k + 1)).toInt64 &&& 63)) ||| pl, t) else (jm_isSo F (nI k) t).bind fun q2 => if q2.1 = 0 then some (lN 1 <<< ((nI (k + 1)).toInt64 &&& 63), q2.2) else some (pl, q2.2)) = some (v, t) ∧ ∀ j, j < n → (jb v j = true ↔ jz_my n (jz_O w) k g (jz_bc w pw k) (jz_rw w pw) j) := by
        intro hno
        refine ⟨_, if_pos rfl, fun j hj => ?_⟩
        rw [jb_or, Bool.or_eq_true, hn1, hpl (by omega) j hj, jz_my_w hwd e0]
        unfold jz_if
        simp [hno, hj, w3]
        exact or_comm
      rcases Nat.lt_or_ge x 1000 with hx1 | hx1
      · rw [if_neg (nI_ge hx1 (by decide))]
        rcases Nat.lt_or_ge y 1000 with hy1 | hy1
        · rw [if_neg (nI_ge hy1 (by decide)), if_neg (show ¬ nI 1 = (0 : Int32) by decide)]
          have hnum : jz_O w k 6 < nI 1000 ∧ jz_O w k 7 < nI 1000 := by rw [e6, e7]; exact ⟨nI_lt hx1 (by decide), nI_lt hy1 (by decide)⟩
          rw [jm_isSo_eq hn hk (by rw [hw]; exact ho k hk) (by rw [hw]; exact e3), hw, Option.bind_some]
          have hso : jz_so2 (t.2.1 16) (jz_O w k 6) (jz_O w k 7) (jz_O w k 8) ↔ jz_so2 (fun _ => 0) (jz_O w k 6) (jz_O w k 7) (jz_O w k 8) := jz_so2_num hnum.1 hnum.2
          by_cases hs : jz_so2 (fun _ => 0) (jz_O w k 6) (jz_O w k 7) (jz_O w k 8)
          · refine ⟨_, jt_if (hso.mpr hs), fun j hj => ?_⟩
            rw [hpl (by omega) j hj, jz_my_w hwd e0]
            unfold jz_if
            simp [hnum, hj, hs, w3]
          · refine ⟨_, jt_ifn (fun z => hs (hso.mp z)), fun j hj => ?_⟩
            rw [hn1, jz_my_w hwd e0]
            unfold jz_if
            simp [hnum, hj, hs, w3]
        · rw [if_pos (nI_le hy1 (by omega))]
          exact hboth (fun z => by rw [e7] at z; exact nI_nlt hy1 (by omega) z.2)
      · rw [if_pos (nI_le hx1 (by omega))]
        exact hboth (fun z => by rw [e6] at z; exact nI_nlt hx1 (by omega) z.1)
    rw [if_neg w3, jm_isJump_eq hk4, Option.bind_some, hw]
    by_cases hj : jz_j (jz_O w) k
    · show ∃ v, (if jt _ = 0 then _ else _) = _ ∧ _
      rw [jt_if hj]
      obtain ⟨l, el, hl⟩ := jm_letsBy_sp (F := F) (t := t) (g := g) hVt hT hk (by rw [hw]; exact hj) hg
      rw [hw] at hl
      simp only [jx_ga_nI hk4 (show 40 < 2 ^ 31 by decide), hgr, el, Option.bind_some, jx_nx]
      by_cases w7 : wd = 7
      · rw [if_pos w7]
        unfold jm_mayFrom_b177
        obtain ⟨bb, eb, hb⟩ := jm_behind_sp (F := F) (S := t) hF hn (by rw [hw]; exact h0)
        rw [hw] at hb
        simp only [jm_bendsRow_eq hp, Option.bind_some, hw, eb, hgr]
        have hbe : ¬ (jz_rw w pw ∧ g < 3) → ∀ j, j < n → (jb (bb &&& l) j = true ↔ jz_my n (jz_O w) k g (jz_bc w pw k) (jz_rw w pw) j) := by
          intro hno j hj
          rw [jb_and, Bool.and_eq_true, hb j (by omega), hl j (by omega), jz_my_w hwd e0]
          simp [hj, hno, w7]
          exact and_comm
        by_cases hrow : jz_rw w pw
        · rw [jt_if hrow]
          by_cases g3 : 3 ≤ g
          · rw [if_pos (nI_le g3 (by omega))]
            exact ⟨_, rfl, hbe (fun z => by omega)⟩
          · rw [if_neg (nI_ge (Nat.lt_of_not_le g3) (by decide))]
            refine ⟨_, rfl, fun j hj => ?_⟩
            rw [hl j (by omega), jz_my_w hwd e0]
            have : g < 3 := by omega
            simp [hj, hrow, this, w7]
        · rw [jt_ifn hrow]
          exact ⟨_, rfl, hbe (fun z => hrow z.1)⟩
      · rw [if_neg w7]
        have h46 : wd = 4 ∨ wd = 6 := by
          rcases hj with h | h | h
          · rw [e0, nI_eq (by omega) (by decide)] at h; exact Or.inl h
          · rw [e0, nI_eq (by omega) (by decide)] at h; exact Or.inr h
          · rw [e0, nI_eq (by omega) (by decide)] at h; exact absurd h w7
        obtain ⟨a1, a2⟩ := hT.1 ce hce
        rw [hw] at a1 a2
        simp only [jm_of_eq hk4 (show 5 < 9 by decide) (show 5 ≠ 2 by decide), Option.bind_some, hw, jm_bendsCell_eq hp]
        by_cases hb : jz_bc w pw k
        · rw [jt_if (show (w (392 + 2 * pw) >>> (jz_O w k 5 &&& 31)) &&& nI 1 = nI 1 from hb)]
          refine ⟨_, rfl, fun j hj => ?_⟩
          rw [hl j (by omega), jz_my_w hwd e0]
          rcases h46 with h | h <;> simp [h, hj, hb]
        · rw [jt_ifn (show ¬ ((w (392 + 2 * pw) >>> (jz_O w k 5 &&& 31)) &&& nI 1 = nI 1) from hb), e5]
          simp only [jx_ga_nI hce (show 16 < 2 ^ 31 by decide)]
          by_cases hod : jz_od n (jz_O w) ce
          · rw [if_neg (fun z => (a2.eq0.mp z) hod)]
            refine ⟨_, rfl, fun j hj => ?_⟩
            rw [hl j (by omega), jz_my_w hwd e0, hcl]
            rcases h46 with h | h <;> simp [h, hj, hod]
          · rw [if_pos (a2.eq0.mpr hod)]
            refine ⟨_, rfl, fun j hj => ?_⟩
            rw [jb_and, Bool.and_eq_true, a1 j (by omega), hl j (by omega), jz_my_w hwd e0, hcl]
            rcases h46 with h | h <;> simp [h, hj, hb, hod] <;> exact and_comm
    · show ∃ v, (if jt _ = 0 then _ else _) = _ ∧ _
      rw [jt_ifn hj]
      refine ⟨_, rfl, fun j hj' => ?_⟩
      have hx : wd = 0 ∨ wd = 1 ∨ wd = 8 := by
        have g4 : ¬ wd = 4 := fun z => hj (Or.inl (by rw [e0, z]))
        have g6 : ¬ wd = 6 := fun z => hj (Or.inr (Or.inl (by rw [e0, z])))
        have g7 : ¬ wd = 7 := fun z => hj (Or.inr (Or.inr (by rw [e0, z])))
        omega
      rw [hn1, jz_my_w hwd e0]
      rcases hx with h | h | h <;> simp [h, hj']
  unfold jm_mayFrom
  simp only [jm_wordOf_eq hk4, Option.bind_some, jx_nx, nI_add, jm_of_eq hk4 (show 4 < 9 by decide) (show 4 ≠ 2 by decide), hw, e0]
  by_cases hpl : wd = 1 ∨ wd = 2 ∨ wd = 3 ∨ wd = 5
  · obtain ⟨q, hq, e4⟩ := (ho k hk).pl (by rw [e0]; rcases hpl with h | h | h | h <;> rw [h] <;> decide)
    rw [e4, if_pos (nI_pos' (by omega))]
    refine hb34 _ (fun _ j hj => ?_)
    rw [jb_sh (by omega), e4, nI_eq (by omega) (by omega)]
    simp
    omega
  · have e4 : jz_O w k 4 = -1 := (ho k hk).np (by
      rw [e0, nI_eq (by omega) (by decide), nI_eq (by omega) (by decide), nI_eq (by omega) (by decide), nI_eq (by omega) (by decide)]
      exact hpl)
    rw [e4, if_neg (by decide)]
    exact hb34 _ (fun z => absurd z hpl)
theorem jm_ways_sp {F n pw : Nat} {gr : Nat → Nat} {t : jm_S} {w : Nat → Int32} (hF : 1000 ≤ F) (hV : jz_V w n) (hw : t.2.1 1 = w) (hT : jm_FL n t) (hp : pw < 6) (hgr : ∀ k, k < n → gr k < 4 ∧ t.2.1 34 k = nI (gr k)) : jw (jm_ways F (nI pw) t) (fun t' => jm_k [] [] [35] t t' ∧ ∀ k, k < n → js (t'.2.2 35 k) (jz_MR w n pw gr k)) := by
  obtain ⟨hn, h0, ho⟩ := id hV
  unfold jm_ways
  simp only [jx_nx]
  unfold jm_ways_h2
  refine jw_for (σ := jm_S) n (fun i s => (nI pw, nI i, s)) (fun i s => jm_k [] [] [35] t s ∧ ∀ k, k < i → js (s.2.2 35 k) (jz_MR w n pw gr k)) ?_ ?_ F 0 t (by omega) (by omega) ⟨jm_k.rf, fun k h => by omega⟩
  · rintro r s ⟨h1, h2⟩
    have e1 : s.2.1 1 = w := (h1.2.1 1 (by simp)).trans hw
    unfold jm_ways_L2
    simp only [jm_orders_eq, Option.bind_some, e1, h0]
    rw [if_pos (nI_le (by omega) (by omega))]
    exact jw_some ⟨h1, h2⟩
  · rintro r i s hi ⟨h1, h2⟩ ih
    have e1 : s.2.1 1 = w := (h1.2.1 1 (by simp)).trans hw
    have hFL : jm_FL n s := hT.k (e1.trans hw.symm) (h1.2.1 13 (by simp)) (h1.2.2 12 (by simp)) (h1.2.2 14 (by simp)) (h1.2.2 15 (by simp))
    obtain ⟨v, ev, hv⟩ := jm_mayFrom_sp (F := F) (t := s) (pw := pw) hF hV e1 hFL hi hp (hgr i hi).1 (by rw [h1.2.1 34 (by simp)]; exact (hgr i hi).2)
    unfold jm_ways_L2
    simp only [jm_orders_eq, Option.bind_some, e1, h0]
    rw [if_neg (nI_ge (by omega) (by omega))]
    simp only [ev, Option.bind_some, jm_all_eq (show s.2.1 1 0 = nI n by rw [e1]; exact h0), jx_ga_nI (show i < 40 by omega) (show 40 < 2 ^ 31 by decide), jx_nx, nI_add]
    refine ih _ ⟨h1.setL (by simp), ?_⟩
    intro k hk
    rw [jm_Le]
    by_cases e : k = i
    · subst e
      rw [pk_uLs]
      intro j hj
      rw [jb_and, Bool.and_eq_true, js_al hn j hj]
      constructor
      · rintro ⟨z1, z2⟩; exact (hv j z2).mp z1
      · intro z; exact ⟨(hv j z.1).mpr z, z.1⟩
    · rw [pk_uLn e]; exact h2 k (by omega)
theorem jm_gradesNow_sp {F n : Nat} {t : jm_S} (hF : 1000 ≤ F) (hn : n ≤ 40) (h0 : t.2.1 1 0 = nI n) : jw (jm_gradesNow F t) (fun t' => jm_k [] [34] [] t t' ∧ ∀ k, k < n → t'.2.1 34 k = t.2.1 1 (8 + 9 * k + 2)) := by
  unfold jm_gradesNow
  simp only [jx_nx]
  unfold jm_gradesNow_h2
  refine jw_for (σ := jm_S) n (fun i s => (nI i, s)) (fun i s => jm_k [] [34] [] t s ∧ ∀ k, k < i → s.2.1 34 k = t.2.1 1 (8 + 9 * k + 2)) ?_ ?_ F 0 t (by omega) (by omega) ⟨jm_k.rf, fun k h => by omega⟩
  · rintro r s ⟨h1, h2⟩
    have e1 : s.2.1 1 = t.2.1 1 := h1.2.1 1 (by decide)
    unfold jm_gradesNow_L2
    simp only [jm_orders_eq, Option.bind_some, e1, h0]
    rw [if_pos (nI_le (by omega) (by omega))]
    exact jw_some ⟨h1, h2⟩
  · rintro r i s hi ⟨h1, h2⟩ ih
    have e1 : s.2.1 1 = t.2.1 1 := h1.2.1 1 (by decide)
    unfold jm_gradesNow_L2
    simp only [jm_orders_eq, Option.bind_some, e1, h0]
    rw [if_neg (nI_ge (by omega) (by omega))]
    simp only [jm_of_2 (show i < 40 by omega), Option.bind_some, e1, jx_ga_nI (show i < 40 by omega) (show 40 < 2 ^ 31 by decide), jx_nx, nI_add]
    refine ih _ ⟨h1.setA (by decide), ?_⟩
    intro k hk
    rw [jm_Ae]
    by_cases e : k = i
    · rw [e, pk_us]
    · rw [pk_un e]; exact h2 k (by omega)
theorem jz_it_up {n c : Nat} {B : Nat → Nat → Prop} {C : Nat → Nat → Nat → Prop} {X0 : Nat → Prop} (h : X0 c) : ∀ r, jz_it n B C X0 r c
  | 0 => h
  | r + 1 => jz_pr_up n (jz_it_up h r)
def jz_kC (n : Nat) (R : Nat → Nat → Prop) : Nat → Nat → Nat → Prop := fun k c d => d = k ∧ k < n ∧ c < n ∧ R k c
theorem jz_kl_fw {n : Nat} {R : Nat → Nat → Prop} (hR : ∀ x y, R x y → y < n) (h0 : 0 < n) {c : Nat} : jz_l n (jz_cB 0) (jz_kC n R) c ↔ jz_fw n R 0 c := by
  constructor
  · intro h X h1 h2
    exact h X (fun _ _ _ z => z ▸ h1) (fun k hk c d z hd => h2 k c hk (z.1 ▸ hd) z.2.2.2)
  · intro h X h1 h2
    exact h X (h1 0 h0 0 rfl) (fun x y hx hX hr => h2 x hx y x ⟨rfl, hx, hR x y hr, hr⟩ hX)
theorem jm_closedSet_sp {F n : Nat} {t : jm_S} {R : Nat → Nat → Prop} (hF : 1000 ≤ F) (hn : n ≤ 40) (h0 : t.2.1 1 0 = nI n) (hR : ∀ x y, R x y → y < n) (hm : ∀ k, k < n → js (t.2.2 35 k) (R k)) : ∃ v, jm_closedSet F t = some (v, t) ∧ js v (fun j => j < n ∧ jz_fw n R 0 j) := by
  have key : jw (jm_closedSet F t) (fun q => q.2 = t ∧ js q.1 (fun j => j < n ∧ jz_fw n R 0 j)) := by
    unfold jm_closedSet jm_closedSet_b12
    simp only [jm_orders_eq, Option.bind_some, h0, jn_eq0 (show n < 2 ^ 31 by omega), jx_nx]
    by_cases hn0 : n = 0
    · rw [if_pos hn0]
      unfold jm_closedSet_h15
      have hFp : F = (F - 1) + 1 := by omega
      rw [hFp, jx_loop_s]
      show jw (jm_closedSet_L15 _ _ (lN 0) (nI 0) t) _
      unfold jm_closedSet_L15
      simp only [jm_orders_eq, Option.bind_some, h0, hn0]
      rw [if_pos (nI_le (Nat.le_refl _) (by decide))]
      exact jw_some ⟨rfl, js_congr js_0 (fun j _ => ⟨False.elim, fun z => absurd z.1 (by omega)⟩)⟩
    · rw [if_neg hn0]
      unfold jm_closedSet_h15
      refine jw_for (σ := Int64) n (fun r x => (x, nI r, t)) (fun r x => js x (fun c => c < n ∧ jz_it n (jz_cB 0) (jz_kC n R) (fun c => c = 0) r c)) ?_ ?_ F 0 (lN 1) (by omega) (by omega) ?_
      · intro r15 x hx
        unfold jm_closedSet_L15
        simp only [jm_orders_eq, Option.bind_some, h0]
        rw [if_pos (nI_le (by omega) (by omega))]
        refine jw_some ⟨rfl, js_congr hx (fun c _ => and_congr_right (fun hc => ?_))⟩
        rw [jz_it_l (N := n) (B := jz_cB 0) (C := jz_kC n R) (X0 := fun c => c = 0) (fun c z => fun X h1 _ => h1 0 (by omega) c z) (fun k c z => by rw [show c = 0 from z]; omega) (fun k c d z => ⟨z.2.2.1, by have := z.1; have := z.2.1; omega⟩) (Nat.le_refl n) c hc]
        exact jz_kl_fw hR (by omega)
      · intro r15 r x hr hx ih
        unfold jm_closedSet_L15
        simp only [jm_orders_eq, Option.bind_some, h0, jx_nx]
        rw [if_neg (nI_ge (by omega) (by omega))]
        unfold jm_closedSet_h26
        refine jw_for (σ := Int64) n (fun i x => (x, nI r, nI i, t)) (fun i x => js x (fun c => c < n ∧ jz_pr (jz_cB 0) (jz_kC n R) i (jz_it n (jz_cB 0) (jz_kC n R) (fun c => c = 0) r) c)) ?_ ?_ F 0 x (by omega) (by omega) hx
        · intro r26 x hx
          unfold jm_closedSet_L26
          simp only [jm_orders_eq, Option.bind_some, h0, jx_nx, nI_add]
          rw [if_pos (nI_le (by omega) (by omega))]
          exact ih x hx
        · intro r26 i x hi hx ih2
          have hb0 : ∀ c, jz_cB 0 i c → jz_pr (jz_cB 0) (jz_kC n R) i (jz_it n (jz_cB 0) (jz_kC n R) (fun c => c = 0) r) c := by
            intro c hc
            exact jz_pr_up i (jz_it_up hc r)
          unfold jm_closedSet_L26 jm_closedSet_b56
          simp only [jm_orders_eq, Option.bind_some, h0, jx_nx, nI_add]
          rw [if_neg (nI_ge (by omega) (by omega)), jm_has_eq (show i < 64 by omega), Option.bind_some]
          by_cases hb : jb x i = true
          · rw [jt_if hb, jx_ga_nI (by omega) (by decide)]
            refine ih2 _ (js_congr (js_or hx (hm i hi)) (fun c _ => ?_))
            have hXi := ((hx i (by omega)).mp hb).2
            constructor
            · rintro (z | z)
              · exact ⟨z.1, Or.inl z.2⟩
              · exact ⟨hR i c z, Or.inr (Or.inr ⟨i, ⟨rfl, hi, hR i c z, z⟩, hXi⟩)⟩
            · rintro ⟨hc, z | z | ⟨d, z, z2⟩⟩
              · exact Or.inl ⟨hc, z⟩
              · exact Or.inl ⟨hc, hb0 c z⟩
              · exact Or.inr z.2.2.2
          · rw [jt_ifn hb]
            refine ih2 _ (js_congr (js_or hx js_0) (fun c _ => ?_))
            constructor
            · rintro (z | z)
              · exact ⟨z.1, Or.inl z.2⟩
              · exact z.elim
            · rintro ⟨hc, z | z | ⟨d, z, z2⟩⟩
              · exact Or.inl ⟨hc, z⟩
              · exact Or.inl ⟨hc, hb0 c z⟩
              · have e := z.1
                rw [e] at z2
                exact absurd ((hx i (by omega)).mpr ⟨hi, z2⟩) hb
      · exact js_congr (js_self (lN 1)) (fun c _ => by rw [jb_1]; exact ⟨fun z => by have := of_decide_eq_true z; exact ⟨by omega, this⟩, fun z => decide_eq_true z.2⟩)
  obtain ⟨⟨v, s⟩, e, rfl, h⟩ := key
  exact ⟨v, e, h⟩
