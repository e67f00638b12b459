/-! the component's learns, whole -/
set_option maxRecDepth 100000
/-- all that the program o knows -/
def jp_LN (o n : Nat) (O : Nat → Nat → Int32) (S : jf_S) : Prop := jp_HO o n O S ∧ js (S.2.1 o 18) (jz_be n O) ∧ ∀ k, k < n → jz_j O k → js (S.2.2.2.1 o 10 k) (jz_kd n O k) ∧ js (S.2.2.2.1 o 11 k) (jz_fl n O k)
theorem jp_LN.k {o n : Nat} {O : Nat → Nat → Int32} {S S' : jf_S} (h : jp_LN o n O S) (h1 : ∀ k, S'.2.2.2.1 o k = S.2.2.2.1 o k) (h2 : S'.1 o 17 = S.1 o 17) (h3 : S'.2.1 o 18 = S.2.1 o 18) : jp_LN o n O S' := by
  refine ⟨h.1.k (h1 9) h2, ?_, ?_⟩
  · rw [h3]; exact h.2.1
  · rw [h1 10, h1 11]; exact h.2.2
theorem jz_kd_j {n k : Nat} {O : Nat → Nat → Int32} (h : ¬ O k 0 = nI 7) (j : Nat) : jz_ki n O (O k 3) j ↔ jz_kd n O k j := ⟨fun z => Or.inr ⟨h, z⟩, fun z => by rcases z with z | z; exact absurd z.1 h; exact z.2⟩
theorem jp_learns_sp {F o n : Nat} {S : jf_S} {w : Nat → Int32} (hF : 1000 ≤ F) (hR : jp_R o S w n) (hV : jz_V w n) : jw (jp_learns F o S) (fun S' => jf_k [(o, 17)] [(o, 18)] [] [(o, 9), (o, 10), (o, 11), (o, 12)] S S' ∧ jp_LN o n (jz_O w) S') := by
  obtain ⟨hn, h0, ho⟩ := id hV
  have hwd : ∀ k, k < n → ∀ rc : jo_R, (∀ c, c < 9 → c ≠ 2 → rc c = jz_O w k c) → ∃ wd : Nat, wd < 10 ∧ rc 0 = nI wd := fun k hk rc h => by rw [h 0 (by decide) (by decide)]; exact (ho k hk).wd
  unfold jp_learns
  refine jw_call (jp_cells_sp hF hR hV) ?_
  rintro S1 ⟨hS1, hH1⟩
  simp only [jx_nx]
  unfold jp_learns_h11
  -- behind
  refine jw_for (σ := jf_S) n (fun i s => (nI i, s)) (fun i s => jf_k [(o, 17)] [(o, 18)] [] [(o, 9), (o, 10), (o, 11), (o, 12)] S s ∧ jp_HO o n (jz_O w) s ∧ js (s.2.1 o 18) (fun j => ∃ k, k < i ∧ k + 1 < n ∧ jz_pu (jz_O w) k ∧ j = k + 1)) ?_ ?_ F 0 _ (by omega) (by omega) ⟨(hS1.wd (by simp) (by simp) (by simp) (by simp)).setJ (by simp), hH1.k rfl rfl, by rw [jf_Je]; exact js_congr js_0 (fun j _ => ⟨False.elim, fun ⟨k, h, _⟩ => by omega⟩)⟩
  · rintro r11 s ⟨hs, hH, hb⟩
    have e13 : s.1 o 13 = nI n := (hs.1 o 13 (by simp)).trans hR.1
    unfold jp_learns_L11
    simp only [e13, jx_nx]
    rw [if_pos (nI_le (by omega) (by omega))]
    have hbe : js (s.2.1 o 18) (jz_be n (jz_O w)) := js_congr hb (fun j _ => ⟨fun ⟨k, _, h2, h3, h4⟩ => ⟨k, h2, h3, h4⟩, fun ⟨k, h2, h3, h4⟩ => ⟨k, by omega, h2, h3, h4⟩⟩)
    unfold jp_learns_h59
    -- kinds and flows
    refine jw_for (σ := jf_S) n (fun i s => (nI i, s)) (fun i s => jf_k [(o, 17)] [(o, 18)] [] [(o, 9), (o, 10), (o, 11), (o, 12)] S s ∧ jp_HO o n (jz_O w) s ∧ js (s.2.1 o 18) (jz_be n (jz_O w)) ∧ ∀ k, k < i → (jz_O w k 0 = nI 7 → js (s.2.2.2.1 o 10 k) (jz_be n (jz_O w))) ∧ ((jz_O w k 0 = nI 4 ∨ jz_O w k 0 = nI 6) → js (s.2.2.2.1 o 10 k) (jz_ki n (jz_O w) (jz_O w k 3)) ∧ js (s.2.2.2.1 o 11 k) (jz_tf n (jz_O w) k))) ?_ ?_ F 0 s (by omega) (by omega) ⟨hs, hH, hbe, fun k h => by omega⟩
    · rintro r59 s ⟨hs, hH, hbe, hk⟩
      have e13 : s.1 o 13 = nI n := (hs.1 o 13 (by simp)).trans hR.1
      unfold jp_learns_L59
      simp only [e13, jx_nx]
      rw [if_pos (nI_le (by omega) (by omega))]
      unfold jp_learns_h241
      -- walks
      refine jw_for (σ := jf_S) n (fun i s => (nI i, s)) (fun i s => jf_k [(o, 17)] [(o, 18)] [] [(o, 9), (o, 10), (o, 11), (o, 12)] S s ∧ jp_HO o n (jz_O w) s ∧ js (s.2.1 o 18) (jz_be n (jz_O w)) ∧ (∀ k, k < n → (jz_O w k 0 = nI 7 → js (s.2.2.2.1 o 10 k) (jz_be n (jz_O w))) ∧ ((jz_O w k 0 = nI 4 ∨ jz_O w k 0 = nI 6) → js (s.2.2.2.1 o 10 k) (jz_ki n (jz_O w) (jz_O w k 3)) ∧ js (s.2.2.2.1 o 11 k) (jz_tf n (jz_O w) k))) ∧ ∀ k, k < i → js (s.2.2.2.1 o 12 k) (fun j => j < n ∧ jz_fw n (jz_wi n (jz_O w)) k j)) ?_ ?_ F 0 s (by omega) (by omega) ⟨hs, hH, hbe, hk, fun k h => by omega⟩
      · rintro r241 s ⟨hs, hH, hbe, hk, hw⟩
        have e13 : s.1 o 13 = nI n := (hs.1 o 13 (by simp)).trans hR.1
        unfold jp_learns_L241
        simp only [e13, jx_nx]
        rw [if_pos (nI_le (by omega) (by omega))]
        unfold jp_learns_h268
        -- backs
        refine jw_for (σ := jf_S) n (fun i s => (nI i, s)) (fun i s => jf_k [(o, 17)] [(o, 18)] [] [(o, 9), (o, 10), (o, 11), (o, 12)] S s ∧ jp_HO o n (jz_O w) s ∧ js (s.2.1 o 18) (jz_be n (jz_O w)) ∧ (∀ k, k < n → (jz_O w k 0 = nI 7 → js (s.2.2.2.1 o 10 k) (jz_be n (jz_O w))) ∧ ((jz_O w k 0 = nI 4 ∨ jz_O w k 0 = nI 6) → js (s.2.2.2.1 o 10 k) (jz_ki n (jz_O w) (jz_O w k 3)) ∧ js (s.2.2.2.1 o 11 k) (jz_tf n (jz_O w) k))) ∧ (∀ k, k < n → js (s.2.2.2.1 o 12 k) (fun j => j < n ∧ jz_fw n (jz_wi n (jz_O w)) k j)) ∧ ∀ k, k < i → jz_O w k 0 = nI 7 → js (s.2.2.2.1 o 11 k) (jz_ba n (jz_O w) k)) ?_ ?_ F 0 s (by omega) (by omega) ⟨hs, hH, hbe, hk, hw, fun k h => by omega⟩
        · rintro r268 s ⟨hs, hH, hbe, hk, hw, hba⟩
          have e13 : s.1 o 13 = nI n := (hs.1 o 13 (by simp)).trans hR.1
          unfold jp_learns_L268
          simp only [e13]
          rw [if_pos (nI_le (by omega) (by omega))]
          refine jw_some ⟨hs, hH, hbe, ?_⟩
          intro k hk1 hj
          obtain ⟨g7, g46⟩ := hk k hk1
          by_cases h7 : jz_O w k 0 = nI 7
          · exact ⟨js_congr (g7 h7) (fun j _ => ⟨fun z => Or.inl ⟨h7, z⟩, fun z => by rcases z with z | z; exact z.2; exact absurd h7 z.1⟩), js_congr (hba k hk1 h7) (fun j _ => ⟨fun z => Or.inl ⟨h7, z⟩, fun z => by rcases z with z | z; exact z.2; exact absurd h7 z.1⟩)⟩
          · have h46 : jz_O w k 0 = nI 4 ∨ jz_O w k 0 = nI 6 := by
              rcases hj with h | h | h
              · exact Or.inl h
              · exact Or.inr h
              · exact absurd h h7
            obtain ⟨g1, g2⟩ := g46 h46
            exact ⟨js_congr g1 (fun j _ => jz_kd_j h7 j), js_congr g2 (fun j _ => ⟨fun z => Or.inr ⟨h7, z⟩, fun z => by rcases z with z | z; exact absurd z.1 h7; exact z.2⟩)⟩
        · rintro r268 i s hi ⟨hs, hH, hbe, hk, hw, hba⟩ ih
          have e13 : s.1 o 13 = nI n := (hs.1 o 13 (by simp)).trans hR.1
          have hRs : jp_R o s w n := hR.k (hs.1 o 13 (by simp)) hs.2.2.2.2
          obtain ⟨rc, hrc, hrc2⟩ := hRs.2 i hi
          unfold jp_learns_L268 jp_learns_b301
          simp only [e13]
          rw [if_neg (nI_ge (by omega) (by omega))]
          simp only [jx_ga_nI (show i < 40 by omega) (show 40 < 2 ^ 31 by decide), hrc, Option.bind_some, jv_word_eq (hwd i hi rc hrc2), hrc2 0 (by decide) (by decide), jx_nx, nI_add]
          by_cases h7 : jz_O w i 0 = nI 7
          · rw [if_pos h7]
            obtain ⟨v, ev, hv⟩ := jp_backs_sp (F := F) hF hRs hV (fun k hk1 h6 => ((hk k hk1).2 (Or.inr h6)).2) hw hi
            simp only [ev, Option.bind_some]
            refine ih _ ⟨hs.setL (by simp), hH.k (jf_Ln (by omega)) rfl, hbe, ?_, ?_, ?_⟩
            · intro k hk1
              rw [jf_Ln (by omega), jf_Le]
              refine ⟨(hk k hk1).1, fun h46 => ?_⟩
              have hki : ¬ k = i := fun e => by subst e; rw [h7] at h46; revert h46; decide
              rw [pk_uLn hki]
              exact (hk k hk1).2 h46
            · intro k hk1; rw [jf_Ln (by omega)]; exact hw k hk1
            · intro k hk1 hk7
              rw [jf_Le]
              by_cases e : k = i
              · subst e; rw [pk_uLs]; exact hv
              · rw [pk_uLn e]; exact hba k (by omega) hk7
          · rw [if_neg h7]
            refine ih _ ⟨hs, hH, hbe, hk, hw, fun k hk1 hk7 => ?_⟩
            by_cases e : k = i
            · subst e; exact absurd hk7 h7
            · exact hba k (by omega) hk7
      · rintro r241 i s hi ⟨hs, hH, hbe, hk, hw⟩ ih
        have e13 : s.1 o 13 = nI n := (hs.1 o 13 (by simp)).trans hR.1
        have hRs : jp_R o s w n := hR.k (hs.1 o 13 (by simp)) hs.2.2.2.2
        unfold jp_learns_L241
        simp only [e13, jx_nx, nI_add]
        rw [if_neg (nI_ge (by omega) (by omega))]
        obtain ⟨v, ev, hv⟩ := jp_walks_sp (F := F) hF hRs hV (fun k hk1 h4 => ((hk k hk1).2 (Or.inl h4)).2) hi
        simp only [ev, Option.bind_some, jx_ga_nI (show i < 40 by omega) (show 40 < 2 ^ 31 by decide)]
        refine ih _ ⟨hs.setL (by simp), hH.k (jf_Ln (by omega)) rfl, hbe, ?_, ?_⟩
        · intro k hk1
          rw [jf_Ln (by omega), jf_Ln (by omega)]
          exact hk k hk1
        · intro k hk1
          rw [jf_Le]
          by_cases e : k = i
          · subst e; rw [pk_uLs]; exact hv
          · rw [pk_uLn e]; exact hw k (by omega)
    · rintro r59 i s hi ⟨hs, hH, hbe, hk⟩ ih
      have e13 : s.1 o 13 = nI n := (hs.1 o 13 (by simp)).trans hR.1
      have hRs : jp_R o s w n := hR.k (hs.1 o 13 (by simp)) hs.2.2.2.2
      obtain ⟨rc, hrc, hrc2⟩ := hRs.2 i hi
      have r0 := hrc2 0 (by decide) (by decide)
      have hi4 : i < 40 := by omega
      unfold jp_learns_L59
      simp only [e13, jx_nx]
      rw [if_neg (nI_ge (by omega) (by omega))]
      simp only [jx_ga_nI hi4 (show 40 < 2 ^ 31 by decide), hrc, Option.bind_some, jv_word_eq (hwd i hi rc hrc2), r0]
      -- behind the inner loop: cell, flows
      have hafter : ∀ s2 : jf_S, jf_k [(o, 17)] [(o, 18)] [] [(o, 9), (o, 10), (o, 11), (o, 12)] S s2 → jp_HO o n (jz_O w) s2 → js (s2.2.1 o 18) (jz_be n (jz_O w)) → (∀ k, k < i → (jz_O w k 0 = nI 7 → js (s2.2.2.2.1 o 10 k) (jz_be n (jz_O w))) ∧ ((jz_O w k 0 = nI 4 ∨ jz_O w k 0 = nI 6) → js (s2.2.2.2.1 o 10 k) (jz_ki n (jz_O w) (jz_O w k 3)) ∧ js (s2.2.2.2.1 o 11 k) (jz_tf n (jz_O w) k))) → (jz_O w i 0 = nI 7 → js (s2.2.2.2.1 o 10 i) (jz_be n (jz_O w))) → ((jz_O w i 0 = nI 4 ∨ jz_O w i 0 = nI 6) → js (s2.2.2.2.1 o 10 i) (jz_ki n (jz_O w) (jz_O w i 3))) →
          jw (jp_learns_b163 F o r59 (nI i) s2) (fun S' => jf_k [(o, 17)] [(o, 18)] [] [(o, 9), (o, 10), (o, 11), (o, 12)] S S' ∧ jp_LN o n (jz_O w) S') := by
        intro s2 hs2 hH2 hbe2 hk2 h7 h46
        have e13 : s2.1 o 13 = nI n := (hs2.1 o 13 (by simp)).trans hR.1
        have hRs2 : jp_R o s2 w n := hR.k (hs2.1 o 13 (by simp)) hs2.2.2.2.2
        obtain ⟨rc, hrc, hrc2⟩ := hRs2.2 i hi
        have r0 := hrc2 0 (by decide) (by decide)
        have r5 := hrc2 5 (by decide) (by decide)
        obtain ⟨c, hc, e5⟩ := (ho i hi).ce
        have hcl : jz_cl (jz_O w) i = c := by unfold jz_cl; rw [e5, nI_clamp (by omega)]
        unfold jp_learns_b163 jp_learns_b232 jp_learns_b233
        simp only [jx_ga_nI hi4 (show 40 < 2 ^ 31 by decide), hrc, Option.bind_some, jv_cell_eq (hwd i hi rc hrc2), r0, r5, e5, jx_nx, nI_add]
        by_cases hj : jz_O w i 0 = nI 4 ∨ jz_O w i 0 = nI 6
        · simp only [if_pos hj]
          rw [if_neg (jn_m1 (by omega))]
          have hfin : ∀ y : Int64, js y (jz_tf n (jz_O w) i) → jw (r59 (nI (i + 1), jf_setL s2 o 11 (vp_updL (s2.2.2.2.1 o 11) i y))) (fun S' => jf_k [(o, 17)] [(o, 18)] [] [(o, 9), (o, 10), (o, 11), (o, 12)] S S' ∧ jp_LN o n (jz_O w) S') := by
            intro y hy
            refine ih _ ⟨hs2.setL (by simp), hH2.k (jf_Ln (by omega)) rfl, hbe2, ?_⟩
            intro k hk1
            rw [jf_Ln (by omega), jf_Le]
            by_cases e : k = i
            · subst e; rw [pk_uLs]; exact ⟨h7, fun z => ⟨h46 z, hy⟩⟩
            · rw [pk_uLn e]; exact hk2 k (by omega)
          simp only [jb3_has (show c < 32 by omega), jx_ga_nI hc (show 16 < 2 ^ 31 by decide), jp_all_eq e13, Option.bind_some]
          obtain ⟨g1, g2⟩ := hH2.1 c hc
          by_cases hb : jb3 (s2.1 o 17) c = true
          · rw [if_pos hb]
            refine hfin _ (js_congr (h46 hj) (fun j _ => ?_))
            unfold jz_tf
            rw [hcl]
            exact ⟨fun z => Or.inl ⟨g2.mp hb, z⟩, fun z => by rcases z with z | z; exact z.2; exact absurd (g2.mp hb) z.1⟩
          · rw [if_neg hb]
            have hb' : ¬ jz_od n (jz_O w) c := fun z => hb (g2.mpr z)
            refine hfin _ (js_congr (js_and g1 (js_al hn)) (fun j _ => ?_))
            unfold jz_tf
            rw [hcl]
            exact ⟨fun z => Or.inr ⟨hb', z⟩, fun z => by rcases z with z | z; exact absurd z.1 hb'; exact z.2⟩
        · simp only [if_neg hj, if_true]
          refine ih _ ⟨hs2, hH2, hbe2, ?_⟩
          intro k hk1
          by_cases e : k = i
          · subst e; exact ⟨h7, fun z => absurd z hj⟩
          · exact hk2 k (by omega)
      have hstart : ∀ x : Int64, (jz_O w i 0 = nI 7 → js x (jz_be n (jz_O w))) → (¬ jz_O w i 0 = nI 7 → x = lN 0) → jw (jp_learns_b94 F o r59 (nI i) x (nI i) s) (fun S' => jf_k [(o, 17)] [(o, 18)] [] [(o, 9), (o, 10), (o, 11), (o, 12)] S S' ∧ jp_LN o n (jz_O w) S') := by
        intro x hx7 hx0
        obtain ⟨kv, hkv⟩ : ∃ kv : Int32, ∀ (rc : jo_R) (s2 : jf_S), (∀ c, c < 9 → c ≠ 2 → rc c = jz_O w i c) → jv_kind F rc s2 = some (kv, s2) ∧ ((jz_O w i 0 = nI 4 ∨ jz_O w i 0 = nI 6) → kv = jz_O w i 3) := by
          by_cases hj : jz_O w i 0 = nI 4 ∨ jz_O w i 0 = nI 6
          · refine ⟨jz_O w i 3, fun rc s2 h => ⟨?_, fun _ => rfl⟩⟩
            rw [jv_kind_eq (by rw [h 0 (by decide) (by decide)]; exact hj), h 3 (by decide) (by decide)]
          · refine ⟨nI 0, fun rc s2 h => ⟨?_, fun z => absurd z hj⟩⟩
            obtain ⟨wd, hwd1, e0⟩ := (ho i hi).wd
            rw [e0, nI_eq (by omega) (by decide), nI_eq (by omega) (by decide)] at hj
            unfold jv_kind
            rw [h 0 (by decide) (by decide), e0]
            rcases jz_10 hwd1 with rfl | rfl | rfl | rfl | rfl | rfl | rfl | rfl | rfl | rfl <;> first | rfl | exact absurd (by decide) hj
        unfold jp_learns_b94
        simp only [jx_ga_nI hi4 (show 40 < 2 ^ 31 by decide), jx_nx]
        unfold jp_learns_h97
        by_cases h7 : jz_O w i 0 = nI 7
        · -- a back: the inner loop ends at once
          have hFp : F = (F - 1) + 1 := by omega
          rw [hFp, jx_loop_s, ← hFp]
          unfold jp_learns_L97
          have e13' : (jf_setL s o 10 (vp_updL (s.2.2.2.1 o 10) i x)).1 o 13 = nI n := e13
          simp only [e13']
          rw [if_neg (nI_ge (by omega) (by omega))]
          simp only [jx_ga_nI hi4 (show 40 < 2 ^ 31 by decide), jf_LO, hrc, Option.bind_some, jv_word_eq (hwd i hi rc hrc2), r0]
          rw [if_pos h7]
          refine hafter _ (hs.setL (by simp)) (hH.k (jf_Ln (by omega)) rfl) hbe ?_ ?_ ?_
          · intro k hk1
            rw [jf_Le, jf_Ln (by omega), pk_uLn (by omega)]
            exact hk k hk1
          · intro _; rw [jf_Le, pk_uLs]; exact hx7 h7
          · intro z; rw [h7] at z; exact absurd z (by decide)
        · refine jw_for (σ := jf_S) n (fun e s => (nI i, nI e, s)) (fun e s2 => jf_k [(o, 17)] [(o, 18)] [] [(o, 9), (o, 10), (o, 11), (o, 12)] S s2 ∧ jp_HO o n (jz_O w) s2 ∧ js (s2.2.1 o 18) (jz_be n (jz_O w)) ∧ (∀ k, k < i → (jz_O w k 0 = nI 7 → js (s2.2.2.2.1 o 10 k) (jz_be n (jz_O w))) ∧ ((jz_O w k 0 = nI 4 ∨ jz_O w k 0 = nI 6) → js (s2.2.2.2.1 o 10 k) (jz_ki n (jz_O w) (jz_O w k 3)) ∧ js (s2.2.2.2.1 o 11 k) (jz_tf n (jz_O w) k))) ∧ js (s2.2.2.2.1 o 10 i) (fun j => j < e ∧ jz_O w j 1 = kv)) ?_ ?_ F 0 _ (by omega) (by omega) ⟨hs.setL (by simp), hH.k (jf_Ln (by omega)) rfl, hbe, ?_, ?_⟩
          · rintro r97 s2 ⟨hs2, hH2, hbe2, hk2, hj2⟩
            have e13 : s2.1 o 13 = nI n := (hs2.1 o 13 (by simp)).trans hR.1
            unfold jp_learns_L97
            simp only [e13]
            rw [if_pos (nI_le (by omega) (by omega))]
            refine hafter s2 hs2 hH2 hbe2 hk2 (fun z => absurd z h7) (fun z => ?_)
            have e : kv = jz_O w i 3 := (hkv rc s hrc2).2 z
            rw [e] at hj2
            exact hj2
          · rintro r97 q s2 hq ⟨hs2, hH2, hbe2, hk2, hj2⟩ ih2
            have e13 : s2.1 o 13 = nI n := (hs2.1 o 13 (by simp)).trans hR.1
            have hRs2 : jp_R o s2 w n := hR.k (hs2.1 o 13 (by simp)) hs2.2.2.2.2
            obtain ⟨rc, hrc, hrc2⟩ := hRs2.2 i hi
            obtain ⟨rq, hrq, hrq2⟩ := hRs2.2 q hq
            have r0 := hrc2 0 (by decide) (by decide)
            unfold jp_learns_L97 jp_learns_b155
            simp only [e13]
            rw [if_neg (nI_ge (by omega) (by omega))]
            simp only [jx_ga_nI hi4 (show 40 < 2 ^ 31 by decide), jx_ga_nI (show q < 40 by omega) (show 40 < 2 ^ 31 by decide), hrc, hrq, Option.bind_some, jv_word_eq (hwd i hi rc hrc2), r0, (hkv rc s2 hrc2).1, hrq2 1 (by decide) (by decide), jf_bit_eq (show q < 40 by omega), jx_nx, nI_add]
            rw [if_neg h7]
            have hset : ∀ y : Int64, js y (fun j => j < q + 1 ∧ jz_O w j 1 = kv) → jw (r97 (nI i, nI (q + 1), jf_setL s2 o 10 (vp_updL (s2.2.2.2.1 o 10) i y))) (fun S' => jf_k [(o, 17)] [(o, 18)] [] [(o, 9), (o, 10), (o, 11), (o, 12)] S S' ∧ jp_LN o n (jz_O w) S') := by
              intro y hy
              refine ih2 _ ⟨hs2.setL (by simp), hH2.k (jf_Ln (by omega)) rfl, hbe2, ?_, ?_⟩
              · intro k hk1
                rw [jf_Le, jf_Ln (by omega), pk_uLn (by omega)]
                exact hk2 k hk1
              · rw [jf_Le, pk_uLs]; exact hy
            by_cases hv : jz_O w q 1 = kv
            · rw [if_pos hv]
              refine hset _ (js_congr (js_or hj2 (js_sh (show q < 64 by omega))) (fun j _ => ?_))
              constructor
              · rintro (⟨z1, z2⟩ | z)
                · exact ⟨by omega, z2⟩
                · subst z; exact ⟨by omega, hv⟩
              · rintro ⟨z1, z2⟩
                by_cases e : j = q
                · exact Or.inr e
                · exact Or.inl ⟨by omega, z2⟩
            · rw [if_neg hv]
              refine hset _ (js_congr (js_or hj2 js_0) (fun j _ => ?_))
              constructor
              · rintro (⟨z1, z2⟩ | z)
                · exact ⟨by omega, z2⟩
                · exact z.elim
              · rintro ⟨z1, z2⟩
                by_cases e : j = q
                · subst e; exact absurd z2 hv
                · exact Or.inl ⟨by omega, z2⟩
          · intro k hk1
            rw [jf_Le, jf_Ln (by omega), pk_uLn (by omega)]
            exact hk k hk1
          · rw [jf_Le, pk_uLs, hx0 h7]
            exact js_congr js_0 (fun j _ => ⟨False.elim, fun z => by omega⟩)
      by_cases h7 : jz_O w i 0 = nI 7
      · rw [if_pos h7]; exact hstart _ (fun _ => hbe) (fun z => absurd h7 z)
      · rw [if_neg h7]; exact hstart _ (fun z => absurd z h7) (fun _ => rfl)
  · rintro r11 i s hi ⟨hs, hH, hb⟩ ih
    have e13 : s.1 o 13 = nI n := (hs.1 o 13 (by simp)).trans hR.1
    have hRs : jp_R o s w n := hR.k (hs.1 o 13 (by simp)) hs.2.2.2.2
    obtain ⟨rc, hrc, hrc2⟩ := hRs.2 i hi
    unfold jp_learns_L11 jp_learns_b51
    simp only [e13, jx_nx, nI_add]
    rw [if_neg (nI_ge (by omega) (by omega))]
    simp only [jx_ga_nI (show i < 40 by omega) (show 40 < 2 ^ 31 by decide), hrc, Option.bind_some, jv_puts_eq (hwd i hi rc hrc2), hrc2 0 (by decide) (by decide), jp_all_eq e13]
    obtain ⟨v, ev, hv⟩ := jf_bit_js (show i + 1 ≤ 40 by omega)
    by_cases hpu : jz_pu (jz_O w) i
    · rw [jt_if (show jz_O w i 0 = nI 5 ∨ jz_O w i 0 = nI 6 from hpu)]
      simp only [ev, Option.bind_some]
      refine ih _ ⟨hs.setJ (by simp), hH.k rfl rfl, ?_⟩
      rw [jf_Je]
      refine js_congr (js_or hb (js_and hv (js_al hn))) (fun j _ => ?_)
      constructor
      · rintro (⟨k, h1, h2⟩ | ⟨⟨h1, h2⟩, h3⟩)
        · exact ⟨k, by omega, h2⟩
        · exact ⟨i, by omega, by omega, hpu, h1⟩
      · rintro ⟨k, h1, h2, h3, h4⟩
        by_cases e : k = i
        · subst e; exact Or.inr ⟨⟨h4, by omega⟩, by omega⟩
        · exact Or.inl ⟨k, by omega, h2, h3, h4⟩
    · rw [jt_ifn (show ¬ (jz_O w i 0 = nI 5 ∨ jz_O w i 0 = nI 6) from hpu)]
      refine ih _ ⟨hs, hH, js_congr hb (fun j _ => ?_)⟩
      constructor
      · rintro ⟨k, h1, h2⟩; exact ⟨k, by omega, h2⟩
      · rintro ⟨k, h1, h2, h3, h4⟩
        by_cases e : k = i
        · subst e; exact absurd h3 hpu
        · exact ⟨k, by omega, h2, h3, h4⟩
