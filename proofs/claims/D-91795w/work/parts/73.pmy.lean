/-! where one with a power may go; what is closed: both sides -/
set_option maxRecDepth 100000
def jz_if (O : Nat → Nat → Int32) (k j : Nat) : Prop := ((O k 6 < nI 1000 ∧ O k 7 < nI 1000) ∧ ((jz_so2 (fun _ => 0) (O k 6) (O k 7) (O k 8) ∧ O k 4 = nI j) ∨ (¬ jz_so2 (fun _ => 0) (O k 6) (O k 7) (O k 8) ∧ j = k + 1))) ∨ (¬ (O k 6 < nI 1000 ∧ O k 7 < nI 1000) ∧ (O k 4 = nI j ∨ j = k + 1))
def jz_my (n : Nat) (O : Nat → Nat → Int32) (k g : Nat) (bc row : Prop) (j : Nat) : Prop := j < n ∧ (((O k 0 = nI 2 ∨ O k 0 = nI 5) ∧ O k 4 = nI j) ∨ (O k 0 = nI 3 ∧ jz_if O k j) ∨ ((O k 0 = nI 0 ∨ O k 0 = nI 1 ∨ O k 0 = nI 8) ∧ j = k + 1) ∨ (O k 0 = nI 7 ∧ jz_lt n O k g j ∧ ((row ∧ g < 3) ∨ jz_be n O j)) ∨ ((O k 0 = nI 4 ∨ O k 0 = nI 6) ∧ jz_lt n O k g j ∧ (bc ∨ jz_od n O (jz_cl O k) ∨ jz_ho n O (jz_cl O k) j)))
def jz_bc (w : Nat → Int32) (pw k : Nat) : Prop := (w (392 + 2 * pw) >>> (jz_O w k 5 &&& 31)) &&& nI 1 = nI 1
def jz_rw (w : Nat → Int32) (pw : Nat) : Prop := w (392 + 2 * pw + 1) = nI 1
theorem jz_so2_num {f g : Nat → Int32} {a b s : Int32} (ha : a < nI 1000) (hb : b < nI 1000) : jz_so2 f a b s ↔ jz_so2 g a b s := by
  unfold jz_so2 jz_v
  rw [if_pos ha, if_pos ha, if_pos hb, if_pos hb]
/-- the words of my, by number -/
theorem jz_my_w {n k g wd : Nat} {O : Nat → Nat → Int32} {bc row : Prop} {j : Nat} (hwd : wd < 10) (e0 : O k 0 = nI wd) : jz_my n O k g bc row j ↔ j < n ∧ (((wd = 2 ∨ wd = 5) ∧ O k 4 = nI j) ∨ (wd = 3 ∧ jz_if O k j) ∨ ((wd = 0 ∨ wd = 1 ∨ wd = 8) ∧ j = k + 1) ∨ (wd = 7 ∧ jz_lt n O k g j ∧ ((row ∧ g < 3) ∨ jz_be n O j)) ∨ ((wd = 4 ∨ wd = 6) ∧ jz_lt n O k g j ∧ (bc ∨ jz_od n O (jz_cl O k) ∨ jz_ho n O (jz_cl O k) j))) := by
  unfold jz_my
  rw [e0, nI_eq (b := 2) (by omega) (by decide), nI_eq (b := 5) (by omega) (by decide), nI_eq (b := 3) (by omega) (by decide), nI_eq (b := 0) (by omega) (by decide), nI_eq (b := 1) (by omega) (by decide), nI_eq (b := 8) (by omega) (by decide), nI_eq (b := 7) (by omega) (by decide), nI_eq (b := 4) (by omega) (by decide), nI_eq (b := 6) (by omega) (by decide)]
theorem jv_may_sp {F n b p h k g pw go gk : Nat} {c : jf_S} {w : Nat → Int32} {r : jo_R} {x5 : Int32} (hV : jz_V w n) (h13 : c.1 3 13 = nI n) (hL : jp_LN 3 n (jz_O w) c) (hk : k < n) (hr : ∀ c, c < 9 → c ≠ 2 → r c = jz_O w k c) (hg : g < 4) (hgr : c.2.2.1 go gk k = nI g) (hx : jz_b x5 (jz_rw w pw)) : ∃ v, jv_may F 3 go gk r (nI k) (w (392 + 2 * pw)) x5 c = some (v, c) ∧ ∀ j, j < n → (jb v j = true ↔ jz_my n (jz_O w) k g (jz_bc w pw k) (jz_rw w pw) j) := by
  obtain ⟨hn, h0, ho⟩ := id hV
  obtain ⟨wd, hwd, e0⟩ := (ho k hk).wd
  have r4 := hr 4 (by decide) (by decide)
  have r5 := hr 5 (by decide) (by decide)
  have r6 := hr 6 (by decide) (by decide)
  have r7 := hr 7 (by decide) (by decide)
  have r8 := hr 8 (by decide) (by decide)
  obtain ⟨v1, b1, j1⟩ := jf_bit_js (show k + 1 ≤ 40 by omega)
  have hk1 : ∀ j, j < n → (jb v1 j = true ↔ j = k + 1) := fun j hj => (j1 j (by omega)).trans ⟨fun z => z.1, fun z => ⟨z, by omega⟩⟩
  have hnext : wd = 0 ∨ wd = 1 ∨ wd = 8 → ∀ j, j < n → (jb v1 j = true ↔ jz_my n (jz_O w) k g (jz_bc w pw k) (jz_rw w pw) j) := by
    intro h j hj
    rw [hk1 j hj, jz_my_w hwd e0]
    rcases h with h | h | h <;> simp [h, hj]
  have hplace : wd = 2 ∨ wd = 5 → ∃ v, jf_bit (jz_O w k 4) = some v ∧ ∀ j, j < n → (jb v j = true ↔ jz_my n (jz_O w) k g (jz_bc w pw k) (jz_rw w pw) j) := by
    intro h
    obtain ⟨q, hq, e4⟩ := (ho k hk).pl (by rw [e0]; rcases h with h | h <;> rw [h] <;> decide)
    rw [e4, jf_bit_eq hq]
    refine ⟨_, rfl, fun j hj => ?_⟩
    rw [jb_sh (by omega), jz_my_w hwd e0, e4, nI_eq (by omega) (by omega)]
    rcases h with h | h <;> simp [h, hj] <;> omega
  obtain ⟨ce, hce, e5⟩ := (ho k hk).ce
  have hcl : jz_cl (jz_O w) k = ce := by unfold jz_cl; rw [e5, nI_clamp (by omega)]
  have hk4 : k < 40 := by omega
  have hthr : wd = 4 ∨ wd = 6 → ∃ v, jo13_may F 3 go gk r (nI k) (w (392 + 2 * pw)) x5 c = some (v, c) ∧ ∀ j, j < n → (jb v j = true ↔ jz_my n (jz_O w) k g (jz_bc w pw k) (jz_rw w pw) j) := by
    intro h
    have hj : jz_j (jz_O w) k := by unfold jz_j; rw [e0]; rcases h with h | h <;> rw [h] <;> decide
    obtain ⟨l, el, hl⟩ := jp_lets_sp (F := F) (g := g) hn h13 hL hk hj hg
    obtain ⟨a1, a2⟩ := hL.1.1 ce hce
    unfold jo13_may
    simp only [jx_ga_nI hk4 (show 40 < 2 ^ 31 by decide), hgr, el, Option.bind_some, jx_nx, r5]
    by_cases hb : jz_bc w pw k
    · refine ⟨_, if_pos hb, fun j hj => ?_⟩
      rw [hl j (by omega), jz_my_w hwd e0]
      rcases h with h | h <;> simp [h, hj, hb]
    · rw [if_neg (show ¬ ((w (392 + 2 * pw) >>> (jz_O w k 5 &&& 31)) &&& nI 1 = nI 1) from hb), e5]
      by_cases hb2 : jb3 (c.1 3 17) ce = true
      · refine ⟨_, if_pos ((jb3_has (by omega)).mpr hb2), fun j hj => ?_⟩
        rw [hl j (by omega), jz_my_w hwd e0, hcl]
        rcases h with h | h <;> simp [h, hj, a2.mp hb2]
      · rw [if_neg (fun z => hb2 ((jb3_has (by omega)).mp z)), jx_ga_nI hce (by decide)]
        refine ⟨_, rfl, fun j hj => ?_⟩
        rw [jb_and, Bool.and_eq_true, a1 j (by omega), hl j (by omega), jz_my_w hwd e0, hcl]
        have hnod : ¬ jz_od n (jz_O w) ce := fun z => hb2 (a2.mpr z)
        rcases h with h | h <;> simp [h, hj, hb, hnod] <;> exact and_comm
  unfold jv_may
  rw [hr 0 (by decide) (by decide), e0]
  rcases jz_10 hwd with rfl | rfl | rfl | rfl | rfl | rfl | rfl | rfl | rfl | rfl
  · rw [if_pos rfl]; unfold jo8_may; rw [nI_add, b1]; exact ⟨v1, rfl, hnext (by decide)⟩
  · rw [if_neg (by decide), if_pos rfl]; unfold jo8_may; rw [nI_add, b1]; exact ⟨v1, rfl, hnext (by decide)⟩
  · rw [if_neg (by decide), if_neg (by decide), if_pos rfl]
    obtain ⟨v, ev, hv⟩ := hplace (by decide)
    unfold jo11_may; rw [r4, ev]; exact ⟨v, rfl, hv⟩
  · rw [if_neg (by decide), if_neg (by decide), if_neg (by decide), if_pos rfl]
    obtain ⟨q, hq, e4⟩ := (ho k hk).pl (by rw [e0]; decide)
    obtain ⟨x, hx6, e6⟩ := (ho k hk).a6 (by rw [e0]; decide)
    obtain ⟨⟨y, hy7, e7⟩, -⟩ := (ho k hk).a7 e0
    unfold jo12_may jo12_may_b22
    simp only [r4, r6, r7, r8, e4, e6, e7, jf_bit_eq hq, nI_add, b1, Option.bind_some, jf_ifHolds_eq]
    have hboth : ¬ (jz_O w k 6 < nI 1000 ∧ jz_O w k 7 < nI 1000) → ∀ j, j < n → (jb ((lN 1 <<< ((nI q).toInt64 &&& 63)) ||| v1) j = true ↔ jz_my n (jz_O w) k g (jz_bc w pw k) (jz_rw w pw) j) := by
      intro hno j hj
      rw [jb_or, Bool.or_eq_true, hk1 j hj, jb_sh (by omega), jz_my_w hwd e0]
      unfold jz_if
      rw [e4, nI_eq (by omega) (by omega)]
      simp [hno, hj]
      omega
    rcases Nat.lt_or_ge x 1000 with hx1 | hx1
    · rw [if_pos (jo_ac_lt hx1)]
      rcases Nat.lt_or_ge y 1000 with hy1 | hy1
      · rw [if_pos (jo_ac_lt hy1), jo_an_lt hx1, jo_an_lt hy1]
        have hnum : jz_O w k 6 < nI 1000 ∧ jz_O w k 7 < nI 1000 := by rw [e6, e7]; exact ⟨nI_lt hx1 (by decide), nI_lt hy1 (by decide)⟩
        have hso : ((jz_O w k 8 = nI 60 ∧ ¬ nI y ≤ nI x) ∨ (¬ jz_O w k 8 = nI 60 ∧ jz_O w k 8 = nI 62 ∧ ¬ nI x ≤ nI y) ∨ (¬ jz_O w k 8 = nI 60 ∧ ¬ jz_O w k 8 = nI 62 ∧ nI x = nI y)) ↔ jz_so2 (fun _ => 0) (jz_O w k 6) (jz_O w k 7) (jz_O w k 8) := by
          unfold jz_so2
          rw [e6, e7, jz_v_lt hx1, jz_v_lt hy1]
        by_cases hs : jz_so2 (fun _ => 0) (jz_O w k 6) (jz_O w k 7) (jz_O w k 8)
        · rw [jt_if (hso.mpr hs)]
          refine ⟨_, rfl, fun j hj => ?_⟩
          rw [jb_sh (by omega), jz_my_w hwd e0]
          unfold jz_if
          rw [e4, nI_eq (by omega) (by omega)]
          simp [hnum, hj, hs]
          omega
        · rw [jt_ifn (fun z => hs (hso.mp z))]
          refine ⟨_, rfl, fun j hj => ?_⟩
          rw [hk1 j hj, jz_my_w hwd e0]
          unfold jz_if
          simp [hnum, hj, hs]
      · rw [jo_ac_ge hy1 hy7, if_neg (jn_m1 (by omega))]
        exact ⟨_, rfl, hboth (fun z => by rw [e7] at z; exact nI_nlt hy1 (by omega) z.2)⟩
    · rw [jo_ac_ge hx1 hx6, if_neg (jn_m1 (by omega))]
      exact ⟨_, rfl, hboth (fun z => by rw [e6] at z; exact nI_nlt hx1 (by omega) z.1)⟩
  · rw [if_neg (by decide), if_neg (by decide), if_neg (by decide), if_neg (by decide), if_pos rfl]; exact hthr (by decide)
  · rw [if_neg (by decide), if_neg (by decide), if_neg (by decide), if_neg (by decide), if_neg (by decide), if_pos rfl]
    obtain ⟨v, ev, hv⟩ := hplace (by decide)
    unfold jo14_may; rw [r4, ev]; exact ⟨v, rfl, hv⟩
  · rw [if_neg (by decide), if_neg (by decide), if_neg (by decide), if_neg (by decide), if_neg (by decide), if_neg (by decide), if_pos rfl]; exact hthr (by decide)
  · rw [if_neg (by decide), if_neg (by decide), if_neg (by decide), if_neg (by decide), if_neg (by decide), if_neg (by decide), if_neg (by decide), if_pos rfl]
    have hj : jz_j (jz_O w) k := Or.inr (Or.inr e0)
    obtain ⟨l, el, hl⟩ := jp_lets_sp (F := F) (g := g) hn h13 hL hk hj hg
    unfold jo16_may jo16_may_b27
    simp only [jx_ga_nI hk4 (show 40 < 2 ^ 31 by decide), hgr, el, Option.bind_some, jx_nx]
    have hbe : ¬ (jz_rw w pw ∧ g < 3) → ∀ j, j < n → (jb (c.2.1 3 18 &&& l) j = true ↔ jz_my n (jz_O w) k g (jz_bc w pw k) (jz_rw w pw) j) := by
      intro hno j hj
      rw [jb_and, Bool.and_eq_true, hL.2.1 j (by omega), hl j (by omega), jz_my_w hwd e0]
      simp [hj, hno]
      exact and_comm
    by_cases hrow : jz_rw w pw
    · rw [if_neg (fun z => (hx.eq0.mp z) hrow)]
      by_cases g3 : 3 ≤ g
      · rw [if_pos (nI_le g3 (by omega))]
        exact ⟨_, rfl, hbe (fun z => by omega)⟩
      · rw [if_neg (nI_ge (Nat.lt_of_not_le g3) (by decide))]
        refine ⟨_, rfl, fun j hj => ?_⟩
        rw [hl j (by omega), jz_my_w hwd e0]
        have : g < 3 := by omega
        simp [hj, hrow, this]
    · rw [if_pos (hx.eq0.mpr hrow)]
      exact ⟨_, rfl, hbe (fun z => hrow z.1)⟩
  · rw [if_neg (by decide), if_neg (by decide), if_neg (by decide), if_neg (by decide), if_neg (by decide), if_neg (by decide), if_neg (by decide), if_neg (by decide), if_pos rfl]; unfold jo8_may; rw [nI_add, b1]; exact ⟨v1, rfl, hnext (by decide)⟩
  · rw [if_neg (by decide), if_neg (by decide), if_neg (by decide), if_neg (by decide), if_neg (by decide), if_neg (by decide), if_neg (by decide), if_neg (by decide), if_neg (by decide), if_pos rfl]
    refine ⟨_, rfl, fun j hj => ?_⟩
    rw [jb_0, jz_my_w hwd e0]
    simp
theorem jz_row_b {w : Nat → Int32} {pw n b p h : Nat} (hW : jz_W w n b p h) (hp : pw < p) : jz_b (w (392 + 2 * pw + 1)) (jz_rw w pw) := by
  rcases (hW.2.2.2.2.2.2.2.1 pw hp).2 with h | h
  · exact Or.inr ⟨fun z => by rw [show jz_rw w pw ↔ w (392 + 2 * pw + 1) = nI 1 from Iff.rfl, h] at z; exact absurd z (by decide), h⟩
  · exact Or.inl ⟨h, h⟩
theorem jp_may_sp {F n b p h k g pw go gk : Nat} {c : jf_S} {w : Nat → Int32} (hW : jz_W w n b p h) (hC : jx_C 3 c w n b p h) (hL : jp_LN 3 n (jz_O w) c) (hk : k < n) (hp : pw < p) (hg : g < 4) (hgr : c.2.2.1 go gk k = nI g) : ∃ v, jp_may F 3 go gk (nI k) (nI pw) c = some (v, c) ∧ js v (jz_my n (jz_O w) k g (jz_bc w pw k) (jz_rw w pw)) := by
  have hV : jz_V w n := hW.v
  obtain ⟨hn, h0, ho⟩ := id hV
  obtain ⟨hR, -, -, -, hP, -⟩ := id hC
  obtain ⟨rc, hrc, hrc2⟩ := hR.2 k hk
  have hp6 : pw < 6 := by have := hW.1.2.2.1; omega
  obtain ⟨v, ev, hv⟩ := jv_may_sp (F := F) (b := b) (p := p) (h := h) (pw := pw) (x5 := w (392 + 2 * pw + 1)) hV hR.1 hL hk hrc2 hg hgr (jz_row_b hW hp)
  unfold jp_may
  simp only [jx_ga_nI (show k < 40 by omega) (show 40 < 2 ^ 31 by decide), hrc, Option.bind_some, jx_ga_nI hp6 (show 6 < 2 ^ 31 by decide), (hP pw hp).1, (hP pw hp).2, ev, jp_all_eq hR.1]
  refine ⟨_, rfl, fun j hj => ?_⟩
  rw [jb_and, Bool.and_eq_true, js_al hn j hj]
  constructor
  · rintro ⟨z1, z2⟩; exact (hv j z2).mp z1
  · intro z; exact ⟨(hv j z.1).mpr z, z.1⟩
def jz_MR (w : Nat → Int32) (n pw : Nat) (gr : Nat → Nat) : Nat → Nat → Prop := fun k j => jz_my n (jz_O w) k (gr k) (jz_bc w pw k) (jz_rw w pw) j
theorem jp_closed_sp {F n b p h pw go gk : Nat} {gr : Nat → Nat} {c : jf_S} {w : Nat → Int32} (hF : 1000 ≤ F) (hW : jz_W w n b p h) (hC : jx_C 3 c w n b p h) (hL : jp_LN 3 n (jz_O w) c) (hp : pw < p) (hgr : ∀ k, k < n → gr k < 4 ∧ c.2.2.1 go gk k = nI (gr k)) : ∃ v, jp_closed F 3 go gk (nI pw) c = some (v, c) ∧ js v (fun j => j < n ∧ jz_fw n (jz_MR w n pw gr) 0 j) := by
  have hV : jz_V w n := hW.v
  obtain ⟨hn, h0, ho⟩ := id hV
  have h13 : c.1 3 13 = nI n := hC.1.1
  have key : jw (jp_closed F 3 go gk (nI pw) c) (fun q => q.2 = c ∧ js q.1 (fun j => j < n ∧ jz_fw n (jz_MR w n pw gr) 0 j)) := by
    unfold jp_closed jp_closed_b12
    simp only [h13, jn_eq0 (show n < 2 ^ 31 by omega), jx_nx]
    by_cases hn0 : n = 0
    · rw [if_pos hn0]
      unfold jp_closed_h16
      have hFp : F = (F - 1) + 1 := by omega
      rw [hFp, jx_loop_s]
      show jw (jp_closed_L16 _ 3 go gk _ (nI pw) (lN 0) (lN 0) c) _
      unfold jp_closed_L16
      rw [if_pos (jc_0.mpr rfl)]
      refine jw_some ⟨rfl, js_congr js_0 (fun j _ => ⟨False.elim, fun z => by omega⟩)⟩
    · rw [if_neg hn0]
      unfold jp_closed_h16
      refine jw_loop (fun q => q.1 = nI pw ∧ q.2.2.2 = c ∧ jz_GW n (jz_MR w n pw gr) 0 q.2.1 q.2.2.1) (fun q => jz_mu q.2.1 q.2.2.1) ?_ F _ ⟨rfl, rfl, ?_⟩ (Nat.lt_of_lt_of_le jz_mu_le (by omega))
      · rintro r16 ⟨x2, got, was, s⟩ ⟨hx2, hs, hg⟩ ih
        have hs' : s = c := hs
        have hx2' : x2 = nI pw := hx2
        subst hs' hx2'
        have hg' : jz_GW n (jz_MR w n pw gr) 0 got was := hg
        unfold jp_closed_L16
        simp only [jc_0, jx_nx]
        by_cases e : got = was
        · rw [if_pos e]
          rw [← e] at hg'
          exact jw_some ⟨rfl, jz_GW_end hg'⟩
        · rw [if_neg e]
          unfold jp_closed_h29
          refine jw_for (σ := Int64) n (fun i x => (nI pw, x, got, nI i, s)) (fun i x => (∀ j, jb got j = true → jb x j = true) ∧ (∀ j, jb x j = true → j < n ∧ jz_fw n (jz_MR w n pw gr) 0 j) ∧ ∀ k, k < i → jb got k = true → ∀ j, jz_MR w n pw gr k j → jb x j = true) ?_ ?_ F 0 got (by omega) (by omega) ⟨fun _ h => h, hg'.2.2.1, fun k h => by omega⟩
          · rintro r29 x ⟨h1, h2, h3⟩
            unfold jp_closed_L29
            simp only [h13]
            rw [if_pos (nI_le (by omega) (by omega))]
            exact ih (nI pw, x, got, s) ⟨rfl, rfl, h1 0 hg'.1, h1, h2, h3⟩ (jz_mu_lt e h1)
          · rintro r29 i x hi ⟨h1, h2, h3⟩ ih2
            unfold jp_closed_L29 jp_closed_b61
            simp only [h13, jx_nx, nI_add]
            rw [if_neg (nI_ge (by omega) (by omega))]
            simp only [jb_has (show i < 64 by omega)]
            by_cases hb : jb got i = true
            · rw [if_pos hb]
              obtain ⟨v, ev, hv⟩ := jp_may_sp (F := F) (pw := pw) (go := go) (gk := gk) hW hC hL hi hp (hgr i hi).1 (hgr i hi).2
              simp only [ev, Option.bind_some]
              have hx : ∀ j, jb (x ||| v) j = true ↔ jb x j = true ∨ jz_MR w n pw gr i j := fun j => by
                rw [jb_or, Bool.or_eq_true]
                refine or_congr_right ?_
                rcases Nat.lt_or_ge j 64 with h | h
                · exact hv j h
                · rw [jb_ge h]
                  exact ⟨fun z => (by cases z), fun z => (by have := z.1; omega)⟩
              refine ih2 _ ⟨fun j hj => (hx j).mpr (Or.inl (h1 j hj)), fun j hj => ?_, fun k hk hgk j hj => ?_⟩
              · rcases (hx j).mp hj with z | z
                · exact h2 j z
                · exact ⟨z.1, fun X x1 x2 => x2 i j hi ((h2 i (h1 i hb)).2 X x1 x2) z⟩
              · by_cases ek : k = i
                · subst ek; exact (hx j).mpr (Or.inr hj)
                · exact (hx j).mpr (Or.inl (h3 k (by omega) hgk j hj))
            · rw [if_neg hb]
              refine ih2 _ ⟨h1, h2, fun k hk hgk j hj => ?_⟩
              by_cases ek : k = i
              · subst ek; exact absurd hgk hb
              · exact h3 k (by omega) hgk j hj
      · have hbit : ∀ j, jb (lN 1) j = true ↔ j = 0 := fun j => by rw [jb_1]; simp
        refine ⟨(hbit 0).mpr rfl, fun j hj => ?_, fun j hj => ?_, fun k _ hk => ?_⟩
        · have hj' : jb (lN 0) j = true := hj
          rw [jb_0] at hj'; cases hj'
        · have e := (hbit j).mp hj
          subst e
          exact ⟨by omega, fun X x1 _ => x1⟩
        · have hk' : jb (lN 0) k = true := hk
          rw [jb_0] at hk'; cases hk'
  obtain ⟨⟨v, s⟩, e, rfl, h⟩ := key
  exact ⟨v, e, h⟩
