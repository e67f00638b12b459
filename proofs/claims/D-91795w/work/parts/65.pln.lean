/-! the component learns: cells, walks, backs, kinds, flows -/
set_option maxRecDepth 100000
def jp_HO (o n : Nat) (O : Nat → Nat → Int32) (S : jf_S) : Prop := (∀ c, c < 16 → js (S.2.2.2.1 o 9 c) (jz_ho n O c) ∧ (jb3 (S.1 o 17) c = true ↔ jz_od n O c)) ∧ ∀ c, 16 ≤ c → jb3 (S.1 o 17) c = false
theorem jp_HO.k {o n : Nat} {O : Nat → Nat → Int32} {S S' : jf_S} (h : jp_HO o n O S) (h1 : S'.2.2.2.1 o 9 = S.2.2.2.1 o 9) (h2 : S'.1 o 17 = S.1 o 17) : jp_HO o n O S' := by
  unfold jp_HO
  rw [h1, h2]
  exact h
def jz_Ch (n : Nat) (O : Nat → Nat → Int32) (q i : Nat) : Prop := (∃ c p, c < 16 ∧ p < 64 ∧ ¬ jz_it n (jz_pt O p) (jz_cp O) (fun _ => False) q c ∧ jz_pr (jz_pt O p) (jz_cp O) i (jz_it n (jz_pt O p) (jz_cp O) (fun _ => False) q) c) ∨ ∃ c, c < 16 ∧ ¬ jz_it n (jz_so O) (jz_cp O) (fun _ => False) q c ∧ jz_pr (jz_so O) (jz_cp O) i (jz_it n (jz_so O) (jz_cp O) (fun _ => False) q) c
theorem jz_Ch_lt {n : Nat} {O : Nat → Nat → Int32} {q : Nat} (h : jz_Ch n O q n) : q < 16 := by
  refine Nat.lt_of_not_le fun hq => ?_
  rcases h with ⟨c, p, hc, hp, h1, h2⟩ | ⟨c, hc, h1, h2⟩
  · exact h1 (jz_it_rest jz_cp_16 q hq c hc h2)
  · exact h1 (jz_it_rest jz_cp_16 q hq c hc h2)
theorem jz_Ch_up {n : Nat} {O : Nat → Nat → Int32} {q i : Nat} (h : jz_Ch n O q i) : jz_Ch n O q (i + 1) := by
  rcases h with ⟨c, p, hc, hp, h1, h2⟩ | ⟨c, hc, h1, h2⟩
  · exact Or.inl ⟨c, p, hc, hp, h1, Or.inl h2⟩
  · exact Or.inr ⟨c, hc, h1, Or.inl h2⟩
theorem jz_Ch_of {n : Nat} {O : Nat → Nat → Int32} {q i : Nat} {ho ho' : Nat → Int64} {od od' : Int32} (h : jz_HS n O q i ho (fun c => jb3 od c = true)) (h' : jz_HS n O q (i + 1) ho' (fun c => jb3 od' c = true)) (hc : jp_ch ho ho' od od') : jz_Ch n O q (i + 1) := by
  rcases hc with ⟨c, p, hc, hp, h1, h2⟩ | ⟨c, hc, h1, h2⟩
  · exact Or.inl ⟨c, p, hc, hp, (fun z => by have := ((h c hc).1 p hp).mpr (jz_pr_up i z); rw [h1] at this; cases this), ((h' c hc).1 p hp).mp h2⟩
  · exact Or.inr ⟨c, hc, (fun z => by have h3 : jb3 od c = true := (h c hc).2.mpr (jz_pr_up i z); rw [h1] at h3; cases h3), (h' c hc).2.mp h2⟩
theorem jp_cells_sp {F o n : Nat} {S : jf_S} {w : Nat → Int32} (hF : 1000 ≤ F) (hR : jp_R o S w n) (hV : jz_V w n) : jw (jp_cells F o S) (fun S' => jf_k [(o, 17)] [] [] [(o, 9)] S S' ∧ jp_HO o n (jz_O w) S') := by
  obtain ⟨hn, h0, ho⟩ := id hV
  unfold jp_cells
  simp only [jx_nx]
  unfold jp_cells_h7
  refine jw_for (σ := jf_S) 16 (fun i s => (nI i, s)) (fun i s => jf_k [(o, 17)] [] [] [(o, 9)] S s ∧ s.1 o 17 = nI 0 ∧ ∀ c, c < i → s.2.2.2.1 o 9 c = lN 0) ?_ ?_ F 0 (jf_setI S o 17 (nI 0)) (by omega) (by omega) ⟨jf_k.rf.setI (by simp), jf_Ie, fun c h => by omega⟩
  · rintro r s ⟨hs, hz, hl⟩
    unfold jp_cells_L7
    simp only [jx_nx]
    rw [if_pos (nI_le (by omega) (by omega))]
    unfold jp_cells_h28
    have outer : ∀ (m q : Nat) (s : jf_S), 17 - q < m → q ≤ 16 → jf_k [(o, 17)] [] [] [(o, 9)] S s → jz_HS n (jz_O w) q 0 (s.2.2.2.1 o 9) (fun c => jb3 (s.1 o 17) c = true) → (∀ c, 16 ≤ c → jb3 (s.1 o 17) c = false) → jw (jx_loop (fun r (a : Int32 × jf_S) => jp_cells_L28 F o r a.1 a.2) m (nI 1, s)) (fun S' => jf_k [(o, 17)] [] [] [(o, 9)] S S' ∧ jp_HO o n (jz_O w) S') := by
      intro m
      induction m with
      | zero => intro q s hm; omega
      | succ m ihm =>
        intro q s hm hq hs hh hod
        rw [jx_loop_s]
        unfold jp_cells_L28
        simp only [jx_nx]
        rw [if_neg (by decide)]
        unfold jp_cells_h36
        refine jw_for (σ := Int32 × jf_S) n (fun i a => (a.1, nI i, a.2)) (fun i a => jf_k [(o, 17)] [] [] [(o, 9)] S a.2 ∧ jz_HS n (jz_O w) q i (a.2.2.2.2.1 o 9) (fun c => jb3 (a.2.1 o 17) c = true) ∧ (∀ c, 16 ≤ c → jb3 (a.2.1 o 17) c = false) ∧ ((a.1 = nI 0 ∧ a.2.2.2.2.1 o 9 = s.2.2.2.1 o 9 ∧ a.2.1 o 17 = s.1 o 17) ∨ (a.1 = nI 1 ∧ jz_Ch n (jz_O w) q i))) ?_ ?_ F 0 (nI 0, s) (by omega) (by omega) ⟨hs, hh, hod, Or.inl ⟨rfl, rfl, rfl⟩⟩
        · rintro r36 ⟨x, a⟩ ⟨ha, hha, hoda, hx⟩
          have e13 : a.1 o 13 = nI n := (ha.1 o 13 (by simp)).trans hR.1
          unfold jp_cells_L36
          simp only [e13]
          rw [if_pos (nI_le (by omega) (by omega))]
          rcases hx with ⟨hx, h1, h2⟩ | ⟨hx, h1⟩
          · cases m with
            | zero => omega
            | succ m =>
              have hx' : x = nI 0 := hx
              rw [hx', jx_loop_s]
              refine jw_ite (fun _ => ?_) (fun h => absurd rfl h)
              refine jw_some ⟨ha, ?_, hoda⟩
              have h3 := jz_HS_nx hha
              simp only [] at h1 h2 h3
              rw [h1, h2] at h3
              have h4 := jz_HS_same hh h3
              intro c hc
              simp only []
              rw [h1, h2]
              exact h4 c hc
          · have hx' : x = nI 1 := hx
            rw [hx']
            exact ihm (q + 1) a (by omega) (by have := jz_Ch_lt h1; omega) ha (jz_HS_nx hha) hoda
        · rintro r36 i ⟨x, a⟩ hi ⟨ha, hha, hoda, hx⟩ ih
          have e13 : a.1 o 13 = nI n := (ha.1 o 13 (by simp)).trans hR.1
          have eO : a.2.2.2.2 = S.2.2.2.2 := ha.2.2.2.2
          obtain ⟨rc, hrc, hrc2⟩ := hR.2 i hi
          unfold jp_cells_L36
          simp only [e13]
          rw [if_neg (nI_ge (by omega) (by omega))]
          simp only [jx_ga_nI (show i < 40 by omega) (show 40 < 2 ^ 31 by decide), eO, hrc, Option.bind_some]
          refine jw_call (jp_moves_sp (F := F) hrc2 (ho i hi) hha hoda) ?_
          rintro ⟨m2, b⟩ ⟨hb1, hb2, hb3, hb4⟩
          have hb5 : jf_k [(o, 17)] [] [] [(o, 9)] S b := ha.trans hb1
          unfold jp_cells_b61 jp_cells_b66
          simp only [jx_nx, nI_add]
          have e1 : ∀ m : Int32, m = nI 0 ∨ m = nI 1 → True := fun _ _ => trivial
          rcases hb4 with ⟨g1, g2, g3⟩ | ⟨g1, g2⟩
          · have g1' : m2 = nI 0 := g1
            rw [g1', if_pos (by decide)]
            rcases hx with ⟨hx, k1, k2⟩ | ⟨hx, k1⟩
            · have hx' : x = nI 0 := hx
              rw [hx', if_pos (by decide)]
              exact ih (nI 0, b) ⟨hb5, hb2, hb3, Or.inl ⟨rfl, g2.trans k1, g3.trans k2⟩⟩
            · have hx' : x = nI 1 := hx
              rw [hx', if_neg (by decide)]
              exact ih (nI 1, b) ⟨hb5, hb2, hb3, Or.inr ⟨rfl, jz_Ch_up k1⟩⟩
          · have g1' : m2 = nI 1 := g1
            rw [g1', if_neg (by decide)]
            exact ih (nI 1, b) ⟨hb5, hb2, hb3, Or.inr ⟨rfl, jz_Ch_of hha hb2 g2⟩⟩
    refine outer F 0 s (by omega) (by omega) hs (jz_HS_0 (fun c hc => ⟨hl c hc, by rw [hz, jb3_0]; simp⟩)) (fun c _ => by rw [hz, jb3_0])
  · rintro r i s hi ⟨hs, hz, hl⟩ ih
    unfold jp_cells_L7
    simp only [jx_nx]
    rw [if_neg (nI_ge (by omega) (by omega))]
    simp only [jx_ga_nI hi (show 16 < 2 ^ 31 by decide), nI_add]
    refine ih _ ⟨hs.setL (by simp), hz, ?_⟩
    intro c hc
    rw [jf_Le]
    by_cases e : c = i
    · rw [e, pk_uLs]
    · rw [pk_uLn e]; exact hl c (by omega)
theorem jp_all_eq {F o n : Nat} {S : jf_S} (h : S.1 o 13 = nI n) : jp_all F o S = some (jz_al n, S) := by
  unfold jp_all
  rw [h]
  rfl
theorem jv_within_sp {F o n k : Nat} {O : Nat → Nat → Int32} {r : jo_R} {S : jf_S} (hn : n ≤ 40) (hk : k < n) (hr : ∀ c, c < 9 → c ≠ 2 → r c = O k c) (ho : jz_or (O k)) (hfl : O k 0 = nI 4 → js (S.2.2.2.1 o 11 k) (jz_tf n O k)) : ∃ v, jv_within F o r (nI k) S = some (v, S) ∧ ∀ j, j < n → (jb v j = true ↔ jz_wi n O k j) := by
  have r0 := hr 0 (by decide) (by decide)
  have r4 := hr 4 (by decide) (by decide)
  obtain ⟨wd, hwd, e0⟩ := ho.wd
  have hwi : ∀ j, jz_wi n O k j ↔ j < n ∧ ((wd = 2 ∧ O k 4 = nI j) ∨ (wd = 3 ∧ (O k 4 = nI j ∨ j = k + 1)) ∨ (wd = 4 ∧ jz_tf n O k j) ∨ (¬ wd = 2 ∧ ¬ wd = 3 ∧ ¬ wd = 4 ∧ ¬ wd = 7 ∧ ¬ wd = 9 ∧ j = k + 1)) := by
    intro j
    unfold jz_wi
    rw [e0, nI_eq (b := 2) (by omega) (by decide), nI_eq (b := 3) (by omega) (by decide), nI_eq (b := 4) (by omega) (by decide), nI_eq (b := 7) (by omega) (by decide), nI_eq (b := 9) (by omega) (by decide)]
  obtain ⟨v1, b1, j1⟩ := jf_bit_js (show k + 1 ≤ 40 by omega)
  have hk1 : ∀ j, j < n → (jb v1 j = true ↔ j = k + 1) := fun j hj => (j1 j (by omega)).trans ⟨fun z => z.1, fun z => ⟨z, by omega⟩⟩
  have hnext : (¬ wd = 2 ∧ ¬ wd = 3 ∧ ¬ wd = 4 ∧ ¬ wd = 7 ∧ ¬ wd = 9) → ∀ j, j < n → (jb v1 j = true ↔ jz_wi n O k j) := by
    rintro ⟨a2, a3, a4, a7, a9⟩ j hj
    rw [hk1 j hj, hwi]
    simp [a2, a3, a4, a7, a9, hj]
  have hz : (wd = 7 ∨ wd = 9) → ∀ j, j < n → (jb (lN 0) j = true ↔ jz_wi n O k j) := by
    intro h j hj
    rw [jb_0, hwi]
    rcases h with h | h <;> simp [h]
  unfold jv_within
  rw [r0, e0]
  unfold jo8_within jo11_within jo12_within jo13_within jo15_within jo16_within jo18_within
  simp only [nI_add, b1, Option.bind_some, jx_ga_nI (show k < 40 by omega) (show 40 < 2 ^ 31 by decide), r4]
  rcases jz_10 hwd with rfl | rfl | rfl | rfl | rfl | rfl | rfl | rfl | rfl | rfl
  · exact ⟨v1, rfl, hnext (by decide)⟩
  · exact ⟨v1, rfl, hnext (by decide)⟩
  · obtain ⟨p, hp, e4⟩ := ho.pl (Or.inr (Or.inl e0))
    rw [e4, jf_bit_eq hp]
    refine ⟨_, rfl, fun j hj => ?_⟩
    rw [hwi, jb_sh (by omega), e4, nI_eq (by omega) (by omega)]
    simp [hj]
    omega
  · obtain ⟨p, hp, e4⟩ := ho.pl (Or.inr (Or.inr (Or.inl e0)))
    rw [e4, jf_bit_eq hp]
    refine ⟨_, rfl, fun j hj => ?_⟩
    rw [hwi, jb_or, Bool.or_eq_true, hk1 j hj, jb_sh (by omega), e4, nI_eq (by omega) (by omega)]
    simp [hj]
    omega
  · refine ⟨_, rfl, fun j hj => ?_⟩
    rw [hfl e0 j (by omega), hwi]
    simp [hj]
  · exact ⟨v1, rfl, hnext (by decide)⟩
  · exact ⟨v1, rfl, hnext (by decide)⟩
  · exact ⟨_, rfl, hz (Or.inl rfl)⟩
  · exact ⟨v1, rfl, hnext (by decide)⟩
  · exact ⟨_, rfl, hz (Or.inr rfl)⟩
/-- how far a growing set is from its rest -/
noncomputable def jz_mu (got was : Int64) : Nat := 2 * (64 - jcn (jb got) 64) + @ite _ (got = was) (Classical.propDecidable _) 0 1
theorem jz_mu_lt {got was got' : Int64} (hne : ¬ got = was) (h : ∀ j, jb got j = true → jb got' j = true) : jz_mu got' got < jz_mu got was := by
  unfold jz_mu
  rw [if_neg hne]
  by_cases e : got' = got
  · rw [if_pos e, e]; omega
  · rw [if_neg e]
    have h1 := jcn_lt (f := jb got) (g := jb got') (n := 64) (fun k _ => h k) (by
      refine Classical.byContradiction fun hno => e (jb_ext fun k hk => ?_)
      cases h2 : jb got k <;> cases h3 : jb got' k
      · rfl
      · exact absurd ⟨k, hk, h2, h3⟩ hno
      · have := h k h2; rw [h3] at this; cases this
      · rfl)
    have h2 := jcn_le (jb got') 64
    omega
theorem jz_mu_le {got was : Int64} : jz_mu got was < 130 := by
  unfold jz_mu
  have : @ite _ (got = was) (Classical.propDecidable _) 0 1 ≤ 1 := by split <;> omega
  omega
/-- a growing set of reached numbers, its last stand beside it -/
def jz_GW (n : Nat) (R : Nat → Nat → Prop) (a : Nat) (got was : Int64) : Prop := jb got a = true ∧ (∀ j, jb was j = true → jb got j = true) ∧ (∀ j, jb got j = true → j < n ∧ jz_fw n R a j) ∧ ∀ k, k < n → jb was k = true → ∀ j, R k j → jb got j = true
theorem jz_GW_end {n a : Nat} {R : Nat → Nat → Prop} {got : Int64} (h : jz_GW n R a got got) : js got (fun j => j < n ∧ jz_fw n R a j) := by
  intro j _
  exact ⟨h.2.2.1 j, fun z => z.2 (fun y => jb got y = true) h.1 (fun x y hx h1 h2 => h.2.2.2 x hx h1 y h2)⟩
theorem jp_walks_sp {F o n a : Nat} {S : jf_S} {w : Nat → Int32} (hF : 1000 ≤ F) (hR : jp_R o S w n) (hV : jz_V w n) (hfl : ∀ k, k < n → jz_O w k 0 = nI 4 → js (S.2.2.2.1 o 11 k) (jz_tf n (jz_O w) k)) (ha : a < n) : ∃ v, jp_walks F o (nI a) S = some (v, S) ∧ js v (fun j => j < n ∧ jz_fw n (jz_wi n (jz_O w)) a j) := by
  obtain ⟨hn, h0, ho⟩ := id hV
  have key : jw (jp_walks F o (nI a) S) (fun q => q.2 = S ∧ js q.1 (fun j => j < n ∧ jz_fw n (jz_wi n (jz_O w)) a j)) := by
    unfold jp_walks
    simp only [jf_bit_eq (show a < 40 by omega), Option.bind_some, jx_nx]
    unfold jp_walks_h8
    refine jw_loop (fun q => q.2.2 = S ∧ jz_GW n (jz_wi n (jz_O w)) a q.1 q.2.1) (fun q => jz_mu q.1 q.2.1) ?_ F _ ⟨rfl, ?_⟩ (Nat.lt_of_lt_of_le jz_mu_le (by omega))
    · rintro r8 ⟨got, was, s⟩ ⟨hs, hg⟩ ih
      have hs' : s = S := hs
      subst hs'
      unfold jp_walks_L8
      simp only [jc_0, jx_nx]
      by_cases e : got = was
      · rw [if_pos e]
        have hg' : jz_GW n (jz_wi n (jz_O w)) a got was := hg
        rw [← e] at hg'
        exact jw_some ⟨rfl, jz_GW_end hg'⟩
      · rw [if_neg e]
        unfold jp_walks_h21
        have hg' : jz_GW n (jz_wi n (jz_O w)) a got was := hg
        refine jw_for (σ := Int64) n (fun i x => (x, got, nI i, s)) (fun i x => (∀ j, jb got j = true → jb x j = true) ∧ (∀ j, jb x j = true → j < n ∧ jz_fw n (jz_wi n (jz_O w)) a j) ∧ ∀ k, k < i → jb got k = true → ∀ j, jz_wi n (jz_O w) k j → jb x j = true) ?_ ?_ F 0 got (by omega) (by omega) ⟨fun _ h => h, hg'.2.2.1, fun k h => by omega⟩
        · rintro r21 x ⟨h1, h2, h3⟩
          unfold jp_walks_L21
          simp only [hR.1]
          rw [if_pos (nI_le (by omega) (by omega))]
          exact ih (x, got, s) ⟨rfl, h1 a hg'.1, h1, h2, h3⟩ (jz_mu_lt e h1)
        · rintro r21 i x hi ⟨h1, h2, h3⟩ ih2
          obtain ⟨rc, hrc, hrc2⟩ := hR.2 i hi
          unfold jp_walks_L21
          simp only [hR.1]
          rw [if_neg (nI_ge (by omega) (by omega))]
          simp only [jb_has (show i < 64 by omega)]
          unfold jp_walks_b63
          simp only [jx_nx, nI_add]
          by_cases hb : jb got i = true
          · rw [if_pos hb]
            obtain ⟨v, ev, hv⟩ := jv_within_sp (F := F) (S := s) hn hi hrc2 (ho i hi) (hfl i hi)
            simp only [jx_ga_nI (show i < 40 by omega) (show 40 < 2 ^ 31 by decide), hrc, Option.bind_some, ev, jp_all_eq hR.1]
            have hx : ∀ j, jb (x ||| (v &&& jz_al n)) j = true ↔ jb x j = true ∨ (jz_wi n (jz_O w) i j) := fun j => by
              rw [jb_or, Bool.or_eq_true, jb_and, Bool.and_eq_true]
              refine or_congr_right ?_
              constructor
              · rintro ⟨z1, z2⟩
                have z3 := (js_al hn j (jb_lt z2)).mp z2
                exact (hv j z3).mp z1
              · intro z
                exact ⟨(hv j z.1).mpr z, (js_al hn j (by have := z.1; omega)).mpr z.1⟩
            refine ih2 _ ⟨fun j hj => (hx j).mpr (Or.inl (h1 j hj)), fun j hj => ?_, fun k hk hgk j hj => ?_⟩
            · rcases (hx j).mp hj with z | z
              · exact h2 j z
              · exact ⟨z.1, fun X x1 x2 => x2 i j hi ((h2 i (h1 i hb)).2 X x1 x2) z⟩
            · by_cases ek : k = i
              · subst ek; exact (hx j).mpr (Or.inr hj)
              · exact (hx j).mpr (Or.inl (h3 k (by omega) hgk j hj))
          · rw [if_neg hb]
            refine ih2 _ ⟨h1, h2, fun k hk hgk j hj => ?_⟩
            by_cases ek : k = i
            · subst ek; exact absurd hgk hb
            · exact h3 k (by omega) hgk j hj
    · have hbit : ∀ j, jb (lN 1 <<< ((nI a).toInt64 &&& 63)) j = true ↔ j = a := fun j => by rw [jb_sh (by omega)]; simp
      refine ⟨(hbit a).mpr rfl, fun j hj => ?_, fun j hj => ?_, fun k _ hk => ?_⟩
      · have hj' : jb (lN 0) j = true := hj
        rw [jb_0] at hj'; cases hj'
      · have e := (hbit j).mp hj
        subst e
        exact ⟨ha, fun X x1 _ => x1⟩
      · have hk' : jb (lN 0) k = true := hk
        rw [jb_0] at hk'; cases hk'
  obtain ⟨⟨v, s⟩, e, rfl, h⟩ := key
  exact ⟨v, e, h⟩
theorem jp_backs_sp {F o n a : Nat} {S : jf_S} {w : Nat → Int32} (hF : 1000 ≤ F) (hR : jp_R o S w n) (hV : jz_V w n) (hfl : ∀ k, k < n → jz_O w k 0 = nI 6 → js (S.2.2.2.1 o 11 k) (jz_tf n (jz_O w) k)) (hfr : ∀ k, k < n → js (S.2.2.2.1 o 12 k) (fun j => j < n ∧ jz_fw n (jz_wi n (jz_O w)) k j)) (ha : a < n) : ∃ v, jp_backs F o (nI a) S = some (v, S) ∧ js v (jz_ba n (jz_O w) a) := by
  obtain ⟨hn, h0, ho⟩ := id hV
  have key : jw (jp_backs F o (nI a) S) (fun q => q.2 = S ∧ js q.1 (jz_ba n (jz_O w) a)) := by
    unfold jp_backs
    simp only [jx_nx]
    unfold jp_backs_h5
    refine jw_for (σ := Int64) (n - 1) (fun i x => (nI a, x, nI i, S)) (fun i x => js x (fun j => ∃ m, m < i ∧ m + 1 < n ∧ jz_pu (jz_O w) m ∧ j = m + 1 ∧ ∃ e, jz_ca n (jz_O w) m e ∧ jz_fw n (jz_wi n (jz_O w)) e a)) ?_ ?_ F 0 (lN 0) (by omega) (by omega) (js_congr js_0 (fun j _ => ⟨False.elim, fun ⟨m, h1, _⟩ => by omega⟩))
    · intro r x hx
      unfold jp_backs_L5
      simp only [hR.1, nI_add]
      rw [if_pos (nI_le (by omega) (by omega))]
      exact jw_some ⟨rfl, js_congr hx (fun j _ => ⟨fun ⟨m, _, h2⟩ => ⟨m, h2⟩, fun ⟨m, h1, h2⟩ => ⟨m, by omega, h1, h2⟩⟩)⟩
    · intro r5 i x hi hx ih
      obtain ⟨rc, hrc, hrc2⟩ := hR.2 i (by omega)
      have hw : ∃ wd : Nat, wd < 10 ∧ rc 0 = nI wd := by rw [hrc2 0 (by decide) (by decide)]; exact (ho i (by omega)).wd
      unfold jp_backs_L5
      simp only [hR.1, nI_add]
      rw [if_neg (nI_ge (by omega) (by omega))]
      simp only [jx_ga_nI (show i < 40 by omega) (show 40 < 2 ^ 31 by decide), hrc, Option.bind_some, jv_puts_eq hw, jv_word_eq hw, hrc2 0 (by decide) (by decide)]
      have hto : ∀ y : Int64, js y (jz_ca n (jz_O w) i) → jz_pu (jz_O w) i → jw (jp_backs_b74 F o r5 (nI a) x (nI i) y S) (fun q => q.2 = S ∧ js q.1 (jz_ba n (jz_O w) a)) := by
        intro y hy hpu
        unfold jp_backs_b74
        simp only [jx_nx]
        unfold jp_backs_h79
        refine jw_for (σ := Int64) n (fun e x => (nI a, x, nI i, y, nI e, S)) (fun q x => js x (fun j => (∃ m, m < i ∧ m + 1 < n ∧ jz_pu (jz_O w) m ∧ j = m + 1 ∧ ∃ e, jz_ca n (jz_O w) m e ∧ jz_fw n (jz_wi n (jz_O w)) e a) ∨ (j = i + 1 ∧ ∃ e, e < q ∧ jz_ca n (jz_O w) i e ∧ jz_fw n (jz_wi n (jz_O w)) e a))) ?_ ?_ F 0 x (by omega) (by omega) (js_congr hx (fun j _ => ⟨Or.inl, fun z => by rcases z with z | ⟨_, e, h1, _⟩; exact z; omega⟩))
        · intro r79 x hx
          unfold jp_backs_L79 jp_backs_b132
          simp only [hR.1, jx_nx, nI_add]
          rw [if_pos (nI_le (by omega) (by omega))]
          refine ih _ (js_congr hx (fun j _ => ?_))
          constructor
          · rintro (⟨m, h1, h2⟩ | ⟨h1, e, _, h2⟩)
            · exact ⟨m, by omega, h2⟩
            · exact ⟨i, by omega, by omega, hpu, h1, e, h2⟩
          · rintro ⟨m, h1, h2, h3, h4, e, h5⟩
            by_cases em : m = i
            · subst em; exact Or.inr ⟨h4, e, h5.1.1, h5⟩
            · exact Or.inl ⟨m, by omega, h2, h3, h4, e, h5⟩
        · intro r79 q x hq hx ih2
          unfold jp_backs_L79 jp_backs_b126
          simp only [hR.1, jx_nx, nI_add]
          rw [if_neg (nI_ge (by omega) (by omega))]
          simp only [jb_has (show q < 64 by omega), jb_has (show a < 64 by omega), jx_ga_nI (show q < 40 by omega) (show 40 < 2 ^ 31 by decide), jf_bit_eq (show i + 1 < 40 by omega), Option.bind_some]
          have hskip : ¬ (jz_ca n (jz_O w) i q ∧ jz_fw n (jz_wi n (jz_O w)) q a) → js x (fun j => (∃ m, m < i ∧ m + 1 < n ∧ jz_pu (jz_O w) m ∧ j = m + 1 ∧ ∃ e, jz_ca n (jz_O w) m e ∧ jz_fw n (jz_wi n (jz_O w)) e a) ∨ (j = i + 1 ∧ ∃ e, e < q + 1 ∧ jz_ca n (jz_O w) i e ∧ jz_fw n (jz_wi n (jz_O w)) e a)) := by
            intro hno
            refine js_congr hx (fun j _ => or_congr_right (and_congr_right fun _ => ?_))
            constructor
            · rintro ⟨e, h1, h2⟩; exact ⟨e, by omega, h2⟩
            · rintro ⟨e, h1, h2⟩
              by_cases ee : e = q
              · subst ee; exact absurd h2 hno
              · exact ⟨e, by omega, h2⟩
          by_cases hb : jb y q = true
          · rw [if_pos hb]
            by_cases hb2 : jb (S.2.2.2.1 o 12 q) a = true
            · rw [if_pos hb2]
              have h1 := (hy q (by omega)).mp hb
              have h2 := ((hfr q hq) a (by omega)).mp hb2
              refine ih2 _ (js_congr (js_or hx (js_sh (show i + 1 < 64 by omega))) (fun j _ => ?_))
              constructor
              · rintro ((z | ⟨z1, e, z2, z3⟩) | z)
                · exact Or.inl z
                · exact Or.inr ⟨z1, e, by omega, z3⟩
                · exact Or.inr ⟨z, q, by omega, h1, h2.2⟩
              · rintro (z | ⟨z1, e, z2, z3⟩)
                · exact Or.inl (Or.inl z)
                · exact Or.inr z1
            · rw [if_neg hb2]
              refine ih2 _ (hskip (fun z => hb2 (((hfr q hq) a (by omega)).mpr ⟨ha, z.2⟩)))
          · rw [if_neg hb]
            exact ih2 _ (hskip (fun z => hb ((hy q (by omega)).mpr z.1)))
      by_cases hpu : jz_pu (jz_O w) i
      · rw [jt_if (show jz_O w i 0 = nI 5 ∨ jz_O w i 0 = nI 6 from hpu)]
        by_cases w5 : jz_O w i 0 = nI 5
        · obtain ⟨p, hp, e4⟩ := (ho i (by omega)).pl (Or.inr (Or.inr (Or.inr w5)))
          rw [if_pos w5]
          simp only [jv_place_eq (S := S) (F := F) (r := rc) (by rw [hrc2 0 (by decide) (by decide)]; exact Or.inr (Or.inr (Or.inr w5))), Option.bind_some, hrc2 4 (by decide) (by decide), e4, jf_bit_eq hp, jp_all_eq hR.1]
          refine hto _ (js_congr (js_and (js_sh (show p < 64 by omega)) (js_al hn)) (fun j hj => ?_)) hpu
          unfold jz_ca
          rw [e4, nI_eq (by omega) (by omega)]
          constructor
          · rintro ⟨z1, z2⟩; exact ⟨z2, Or.inl ⟨w5, z1.symm⟩⟩
          · rintro ⟨z2, z | z⟩
            · exact ⟨z.2.symm, z2⟩
            · exact absurd w5 z.1
        · rw [if_neg w5]
          have w6 : jz_O w i 0 = nI 6 := by
            rcases hpu with hc | hc
            · exact absurd hc w5
            · exact hc
          refine hto _ (js_congr (hfl i (by omega) w6) (fun j _ => ⟨fun z => ⟨jz_tf_lt z, Or.inr ⟨w5, z⟩⟩, fun z => ?_⟩)) hpu
          rcases z.2 with z | z
          · exact absurd z.1 w5
          · exact z.2
      · rw [jt_ifn (show ¬ (jz_O w i 0 = nI 5 ∨ jz_O w i 0 = nI 6) from hpu)]
        unfold jp_backs_b132
        simp only [jx_nx, nI_add]
        refine ih _ (js_congr hx (fun j _ => ?_))
        constructor
        · rintro ⟨m, h1, h2⟩; exact ⟨m, by omega, h2⟩
        · rintro ⟨m, h1, h2, h3, h4⟩
          by_cases em : m = i
          · subst em; exact absurd h3 hpu
          · exact ⟨m, by omega, h2, h3, h4⟩
  obtain ⟨⟨v, s⟩, e, rfl, h⟩ := key
  exact ⟨v, e, h⟩
