/-! runs, whole: both sides go together -/
set_option maxRecDepth 100000
def jw2 {α β : Type} (o : Option α) (q : Option β) (P : α → β → Prop) : Prop := ∃ a b, o = some a ∧ q = some b ∧ P a b
theorem jw2_some {α β : Type} {a : α} {b : β} {P : α → β → Prop} (h : P a b) : jw2 (some a) (some b) P := ⟨a, b, rfl, rfl, h⟩
/-- two loops that count up to e together -/
theorem jw2_for {α β α' β' σ : Type} {f : (α → Option β) → α → Option β} {g : (α' → Option β') → α' → Option β'} {P : β → β' → Prop} (e : Nat) (s1 : Nat → σ → α) (s2 : Nat → σ → α') (I : Nat → σ → Prop)
    (hx : ∀ (r1 : α → Option β) (r2 : α' → Option β') (s : σ), I e s → jw2 (f r1 (s1 e s)) (g r2 (s2 e s)) P)
    (hs : ∀ (r1 : α → Option β) (r2 : α' → Option β') (i : Nat) (s : σ), i < e → I i s → (∀ s', I (i + 1) s' → jw2 (r1 (s1 (i + 1) s')) (r2 (s2 (i + 1) s')) P) → jw2 (f r1 (s1 i s)) (g r2 (s2 i s)) P) :
    ∀ (n1 n2 i : Nat) (s : σ), i ≤ e → e - i < n1 → e - i < n2 → I i s → jw2 (jx_loop f n1 (s1 i s)) (jx_loop g n2 (s2 i s)) P := by
  intro n1
  induction n1 with
  | zero => intro n2 i s _ h; omega
  | succ n1 ih =>
    intro n2 i s hi h h2 hI
    cases n2 with
    | zero => omega
    | succ n2 =>
      rcases Nat.lt_or_ge i e with h1 | h1
      · exact hs _ _ i s h1 hI (fun s' h3 => ih n2 (i + 1) s' h1 (by omega) (by omega) h3)
      · have h3 : i = e := by omega
        subst h3
        exact hx _ _ s hI
/-- the two machines agree in a run -/
def jx_M (c : jf_S) (t : jm_S) (d st sd : Nat) : Prop := jx_M0 c t d sd ∧ (st ≤ 300 ∧ sd ≤ st ∧ c.1 5 10 = nI st ∧ t.1 24 = nI st) ∧ (c.1 5 9 = t.1 27 ∧ c.1 5 11 = t.1 28 ∧ c.1 5 13 = t.1 29 ∧ c.1 5 15 = t.1 30 ∧ c.1 5 16 = t.1 31 ∧ c.1 5 17 + nI 1 = t.1 32) ∧ (∀ i, i < st → c.2.2.1 5 6 i = t.2.1 22 i)
/-- what stands still in a run: the program on both sides, and what the twin's jumps let -/
def jx_R (c : jf_S) (t : jm_S) (w : Nat → Int32) (n b p h : Nat) : Prop := jz_W w n b p h ∧ jx_C 3 c w n b p h ∧ jp_LN 3 n (jz_O w) c ∧ t.2.1 1 = w ∧ ∀ k, k < n → jz_j (jz_O w) k → ∃ g : Nat, g < 4 ∧ w (8 + 9 * k + 2) = nI g ∧ js (t.2.2 33 k) (jz_lt n (jz_O w) k g)
theorem jx_R.k {c c' : jf_S} {t t' : jm_S} {w : Nat → Int32} {n b p h : Nat} (hR : jx_R c t w n b p h) (hf : jx_f5 c c') (h1 : t'.2.1 1 = t.2.1 1) (h2 : t'.2.2 = t.2.2) : jx_R c' t' w n b p h := by
  obtain ⟨a1, a2, a3, a4, a5⟩ := hR
  refine ⟨a1, hf.C (by decide) a2, hf.LN (by decide) a3, h1.trans a4, ?_⟩
  rw [h2]
  exact a5
theorem jx_bends {F n b p h d st sd : Nat} {c : jf_S} {t : jm_S} {w : Nat → Int32} (hF : 1000 ≤ F) (hR : jx_R c t w n b p h) (hM : jx_M c t d st sd) : jw2 (jk_bends F c) (jm_bendsNow F t) (fun c' t' => jx_M c' t' d st sd ∧ jx_f5 c c' ∧ c'.1 = c.1 ∧ jm_k [] [16, 17, 18, 19] [] t t') := by
  obtain ⟨hW, hC, hL, hw, -⟩ := hR
  obtain ⟨⟨hn, hb8, hp, hh⟩, ⟨w0, w1, w2, w3⟩, -, -, -, -, wb, -⟩ := hW
  obtain ⟨-, -, -, ⟨-, -, c16⟩, -, -, cb⟩ := hC
  unfold jk_bends jm_bendsNow
  simp only [jx_nx]
  unfold jk_bends_h2 jm_bendsNow_h2
  refine jw2_for (σ := jf_S × jm_S) b (fun i s => (nI i, s.1)) (fun i s => (nI i, s.2)) (fun i s => jx_M s.1 s.2 d st sd ∧ jx_f5 c s.1 ∧ s.1.1 = c.1 ∧ jm_k [] [16, 17, 18, 19] [] t s.2) ?_ ?_ F F 0 (c, t) (by omega) (by omega) (by omega) ⟨hM, jx_f5.rf, rfl, jm_k.rf⟩
  · rintro r1 r2 ⟨c1, t1⟩ ⟨h1, h2, h3, h4⟩
    have e1 : t1.2.1 1 = w := (h4.2.1 1 (by decide)).trans hw
    have e16 : c1.1 3 16 = nI b := by rw [h3]; exact c16
    unfold jk_bends_L2 jm_bendsNow_L2
    simp only [jx_ga_nI (show 1 < 412 by decide) (show 412 < 2 ^ 31 by decide), e1, w1, e16]
    have hle : nI b ≤ nI b := nI_le (Nat.le_refl _) (by omega)
    simp only [if_pos hle]
    refine jw2_some ?_
    exact ⟨h1, h2, h3, h4⟩
  · rintro r1 r2 i ⟨c1, t1⟩ hi ⟨h1, h2, h3, h4⟩ ih
    dsimp only at h1 h2 h3 h4
    have e1 : t1.2.1 1 = w := (h4.2.1 1 (by decide)).trans hw
    have e16 : c1.1 3 16 = nI b := by rw [h3]; exact c16
    have eA : c1.2.2.1 3 = c.2.2.1 3 := h2.2.2.1 3 (by decide)
    obtain ⟨sv, cv, hsv, hcv, es, ec⟩ := wb i hi
    obtain ⟨b5, b6, b7⟩ := cb i hi
    obtain ⟨⟨m00, m1, m2, m3, m4⟩, ⟨n1, n2, n3, n4⟩, n5, n6⟩ := id h1
    obtain ⟨m0, m01, m02, m03, m04⟩ := m00
    unfold jk_bends_L2 jm_bendsNow_L2 jk_bends_b126 jm_bendsNow_b113
    have hi8 : i < 8 := by omega
    simp only [jx_ga_nI (show 1 < 412 by decide) (show 412 < 2 ^ 31 by decide), e1, w1, e16, jx_nx, pk_mul, nI_add, jx_ga_nI (show 368 + 3 * i < 412 by omega) (show 412 < 2 ^ 31 by decide), jx_ga_nI (show 368 + 3 * i + 1 < 412 by omega) (show 412 < 2 ^ 31 by decide), jx_ga_nI (show 368 + 3 * i + 2 < 412 by omega) (show 412 < 2 ^ 31 by decide), jx_ga_nI hi8 (show 8 < 2 ^ 31 by decide), eA, b5, b6, b7, es, ec, n3, n4, m01, m02]
    have hge : ¬ nI b ≤ nI i := nI_ge hi (by omega)
    simp only [if_neg hge]
    simp only [nI_eq (show sv < 2 ^ 31 by omega) (show st < 2 ^ 31 by omega), nI_leI (show 16 < 2 ^ 31 by decide) (show cv < 2 ^ 31 by omega), jn_le0 (show d < 2 ^ 31 by omega)]
    by_cases hs : sv = st
    · simp only [if_pos hs]
      by_cases h16 : 16 ≤ cv
      · simp only [if_pos h16]
        by_cases hd : d = 0
        · simp only [if_pos hd]
          exact ih (c1, t1) ⟨h1, h2, h3, h4⟩
        · simp only [if_neg hd]
          have hd1 : d - 1 < 8 := by omega
          simp only [pk_sub (show 1 ≤ d by omega), jx_ga_nI hd1 (show 8 < 2 ^ 31 by decide), jf_A0, jm_A0, m01, m02]
          refine ih (_, _) ⟨⟨⟨⟨m0, m01, m02, m03, m04⟩, m1, m2, ?_, m4⟩, ⟨n1, n2, n3, n4⟩, n5, n6⟩, h2.A.A, h3, (h4.setA (by simp)).setA (by simp)⟩
          intro j hj
          exact ⟨jx_upd_cong (fun q hq => (m3 q hq).1) j hj, jx_upd_cong (fun q hq => (m3 q hq).2.1) j hj, (m3 j hj).2.2⟩
      · simp only [if_neg h16]
        have hc16 : cv < 16 := by omega
        have eA2 : ∀ f, (jf_setA c1 5 1 f).2.2.1 3 = c.2.2.1 3 := fun f => eA
        simp only [jx_ga_nI hc16 (show 16 < 2 ^ 31 by decide), eA2, b6, ec]
        refine ih (_, _) ⟨⟨⟨⟨m0, m01, m02, m03, m04⟩, jx_upd_cong m1, jx_upd_cong m2, m3, m4⟩, ⟨n1, n2, n3, n4⟩, n5, n6⟩, h2.A.A, h3, (h4.setA (by simp)).setA (by simp)⟩
    · simp only [if_neg hs]
      exact ih (c1, t1) ⟨h1, h2, h3, h4⟩
/-- the end of a run -/
def jx_E (c : jf_S) (t : jm_S) : Prop := (∃ d st sd, jx_M c t d st sd) ∧ c.1 5 14 = t.1 26
def jx_tI : List Nat := [21, 24, 25, 26, 27, 28, 29, 30, 31, 32]
def jx_tA : List Nat := [16, 17, 18, 19, 20, 22, 23]
