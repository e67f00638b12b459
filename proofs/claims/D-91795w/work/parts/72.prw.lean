/-! a whole run, both sides -/
set_option maxRecDepth 100000
theorem jw2_call {α β α' β' : Type} {o : Option α} {q : Option β} {f : α → Option α'} {g : β → Option β'} {Q : α → β → Prop} {P : α' → β' → Prop} (h : jw2 o q Q) (k : ∀ a b, Q a b → jw2 (f a) (g b) P) : jw2 (o.bind f) (q.bind g) P := by
  obtain ⟨a, b, e1, e2, h1⟩ := h
  rw [e1, e2]
  exact k a b h1
theorem jw2_mono {α β : Type} {o : Option α} {q : Option β} {P Q : α → β → Prop} (h : jw2 o q P) (k : ∀ a b, P a b → Q a b) : jw2 o q Q := by
  obtain ⟨a, b, e1, e2, h1⟩ := h
  exact ⟨a, b, e1, e2, k a b h1⟩
theorem jw2_of {α β : Type} {o : Option α} {q : Option β} {P : α → Prop} {Q : β → Prop} (h : jw o P) (k : jw q Q) : jw2 o q (fun a b => P a ∧ Q b) := by
  obtain ⟨a, e1, h1⟩ := h
  obtain ⟨b, e2, h2⟩ := k
  exact ⟨a, b, e1, e2, h1, h2⟩
theorem jk_runs_end {F m : Nat} {x1 : Int32} {c : jf_S} (hm : 0 < m) : jx_loop (fun r (a : Int32 × Int32 × jf_S) => jk_runs_L11 F r a.1 a.2.1 a.2.2) m (x1, nI 0, c) = some c := by
  cases m with
  | zero => omega
  | succ m => rfl
theorem jx_runs_loop {F n b p h : Nat} {w : Nat → Int32} {x1 x2 : Int32} (hF : 1000 ≤ F) : ∀ (j m1 m2 st d sd : Nat) (c : jf_S) (t : jm_S), st + j = 300 → j + 1 < m1 → j < m2 → jx_R c t w n b p h → jx_M c t d st sd → c.1 5 14 = nI 4 → c.1 5 18 = x2 →
    jw2 (jx_loop (fun r (a : Int32 × Int32 × jf_S) => jk_runs_L11 F r a.1 a.2.1 a.2.2) m1 (x1, nI 1, c)) (jx_loop (fun r (a : Int32 × Int32 × jm_S) => jm_runs_L53 F r a.1 a.2.1 a.2.2) m2 (x1, x2, t)) (fun c' t' => jx_E c' t' ∧ jx_f5 c c' ∧ jm_k jx_tI jx_tA [] t t') := by
  intro j
  induction j with
  | zero =>
    intro m1 m2 st d sd c t hst hm1 hm2 hR hM h14 h18
    cases m1 with
    | zero => omega
    | succ m1 =>
      cases m2 with
      | zero => omega
      | succ m2 =>
        rw [jx_loop_s, jx_loop_s]
        have core : ∀ (c1 : jf_S) (t1 : jm_S), jx_M c1 t1 d st sd → jw2 (jk_runs_b23 F (jx_loop (fun r (a : Int32 × Int32 × jf_S) => jk_runs_L11 F r a.1 a.2.1 a.2.2) m1) x1 c1) (jm_runs_b61 F (jx_loop (fun r (a : Int32 × Int32 × jm_S) => jm_runs_L53 F r a.1 a.2.1 a.2.2) m2) x1 x2 t1) (fun c' t' => jx_E c' t' ∧ jx_f5 c1 c' ∧ jm_k jx_tI jx_tA [] t1 t') := by
          intro c1 t1 hM1
          obtain ⟨g0, ⟨g1, g2, g3, g4⟩, g5, g6⟩ := id hM1
          have e : st = 300 := by omega
          subst e
          unfold jk_runs_b23 jm_runs_b61
          rw [if_pos g3, if_pos g4]
          simp only [jx_nx]
          rw [jk_runs_end (by omega)]
          refine jw2_some ?_
          exact ⟨⟨⟨d, 300, sd, g0, ⟨g1, g2, g3, g4⟩, g5, g6⟩, rfl⟩, jx_f5.rf.I, jm_k.rf.setI (by decide)⟩
        show jw2 (jk_runs_L11 F _ x1 (nI 1) c) (jm_runs_L53 F _ x1 x2 t) _
        unfold jk_runs_L11 jm_runs_L53
        rw [if_neg (show ¬ nI 1 = (0 : Int32) by decide)]
        by_cases hx : x1 = 0
        · rw [if_pos hx, if_pos hx]
          exact core c t hM
        · rw [if_neg hx, if_neg hx]
          refine jw2_call (jx_bends hF hR hM) ?_
          rintro c1 t1 ⟨k1, k2, k3, k4⟩
          refine jw2_mono (core c1 t1 k1) ?_
          rintro c' t' ⟨l1, l2, l3⟩
          exact ⟨l1, k2.trans l2, (k4.wd (by decide) (by decide) (by simp)).trans l3⟩
  | succ j ih =>
    intro m1 m2 st d sd c t hst hm1 hm2 hR hM h14 h18
    cases m1 with
    | zero => omega
    | succ m1 =>
      cases m2 with
      | zero => omega
      | succ m2 =>
        rw [jx_loop_s, jx_loop_s]
        have core : ∀ (c1 : jf_S) (t1 : jm_S), jx_R c1 t1 w n b p h → jx_M c1 t1 d st sd → c1.1 5 14 = nI 4 → c1.1 5 18 = x2 → jw2 (jk_runs_b23 F (jx_loop (fun r (a : Int32 × Int32 × jf_S) => jk_runs_L11 F r a.1 a.2.1 a.2.2) m1) x1 c1) (jm_runs_b61 F (jx_loop (fun r (a : Int32 × Int32 × jm_S) => jm_runs_L53 F r a.1 a.2.1 a.2.2) m2) x1 x2 t1) (fun c' t' => jx_E c' t' ∧ jx_f5 c1 c' ∧ jm_k jx_tI jx_tA [] t1 t') := by
          intro c1 t1 hR1 hM1 g14 g18
          have hst3 : st < 300 := by omega
          have g10 : c1.1 5 10 = nI st := hM1.2.1.2.2.1
          unfold jk_runs_b23
          rw [g10, if_neg (fun z => by rw [nI_eq (by omega) (by decide)] at z; omega)]
          rcases jx_body (F := F) (x1 := x1) (x2 := x2) hR1 hM1 hst3 g14 g18 with ⟨c', t', k1, k2, k3, k4, k5⟩ | ⟨c', t', d', sd', k1, k2, k3, k4, k5, k6, k7⟩
          · rw [k1, k2]
            simp only [Option.bind_some, jx_nx]
            rw [jk_runs_end (by omega)]
            refine jw2_some ?_
            exact ⟨k3, k4, k5⟩
          · rw [k1, k2]
            simp only [Option.bind_some, jx_nx]
            have hR2 : jx_R c' t' w n b p h := hR1.k k4 (k5.2.1 1 (by decide)) (funext fun i => k5.2.2 i (by simp))
            refine jw2_mono (ih m1 m2 (st + 1) d' sd' c' t' (by omega) (by omega) (by omega) hR2 k3 k6 k7) ?_
            rintro c'' t'' ⟨l1, l2, l3⟩
            exact ⟨l1, k4.trans l2, k5.trans l3⟩
        show jw2 (jk_runs_L11 F _ x1 (nI 1) c) (jm_runs_L53 F _ x1 x2 t) _
        unfold jk_runs_L11 jm_runs_L53
        rw [if_neg (show ¬ nI 1 = (0 : Int32) by decide)]
        by_cases hx : x1 = 0
        · rw [if_pos hx, if_pos hx]
          exact core c t hR hM h14 h18
        · rw [if_neg hx, if_neg hx]
          refine jw2_call (jx_bends hF hR hM) ?_
          rintro c1 t1 ⟨k1, k2, k3, k4⟩
          have hR2 : jx_R c1 t1 w n b p h := hR.k k2 (k4.2.1 1 (by decide)) (funext fun i => k4.2.2 i (by simp))
          refine jw2_mono (core c1 t1 hR2 k1 (by rw [k3]; exact h14) (by rw [k3]; exact h18)) ?_
          rintro c' t' ⟨l1, l2, l3⟩
          exact ⟨l1, k2.trans l2, (k4.wd (by decide) (by decide) (by simp)).trans l3⟩
theorem jk_begins_sp {F : Nat} {c : jf_S} (hF : 1000 ≤ F) : jw (jk_begins F c) (fun c' => jx_f5 c c' ∧ c'.1 5 18 = c.1 5 18 ∧ (c'.1 5 8 = nI 0 ∧ c'.1 5 9 = nI 0 ∧ c'.1 5 10 = nI 0 ∧ c'.1 5 11 = nI 0 ∧ c'.1 5 12 = nI 0 ∧ c'.1 5 13 = nI 0 ∧ c'.1 5 14 = nI 4 ∧ c'.1 5 15 = (-1 : Int32) ∧ c'.1 5 16 = (-1 : Int32) ∧ c'.1 5 17 = (-1 : Int32)) ∧ ∀ i, i < 16 → c'.2.2.1 5 1 i = nI 0 ∧ c'.2.2.1 5 2 i = (-1 : Int32)) := by
  unfold jk_begins
  simp only [jx_nx]
  unfold jk_begins_h2
  refine jw_for (σ := jf_S) 16 (fun i s => (nI i, s)) (fun i s => jx_f5 c s ∧ s.1 5 18 = c.1 5 18 ∧ ∀ j, j < i → s.2.2.1 5 1 j = nI 0 ∧ s.2.2.1 5 2 j = (-1 : Int32)) ?_ ?_ F 0 c (by omega) (by omega) ⟨jx_f5.rf, rfl, fun j h => by omega⟩
  · rintro r s ⟨h1, h2, h3⟩
    unfold jk_begins_L2
    simp only [jx_nx]
    rw [if_pos (nI_le (by omega) (by omega))]
    refine jw_some ⟨h1.I.I.I.I.I.I.I.I.I.I, h2, ⟨rfl, rfl, rfl, rfl, rfl, rfl, rfl, rfl, rfl, rfl⟩, h3⟩
  · rintro r i s hi ⟨h1, h2, h3⟩ ih
    unfold jk_begins_L2
    simp only [jx_nx]
    rw [if_neg (nI_ge (by omega) (by omega))]
    simp only [jx_ga_nI hi (show 16 < 2 ^ 31 by decide), nI_add]
    refine ih _ ⟨h1.A.A, h2, ?_⟩
    intro j hj
    rw [jf_An (by decide), jf_Ae, jf_Ae, jf_An (by decide)]
    by_cases e : j = i
    · rw [e, pk_us, pk_us]; exact ⟨rfl, rfl⟩
    · rw [pk_un e, pk_un e]; exact h3 j (by omega)
theorem jm_begins_sp {F : Nat} {t : jm_S} (hF : 1000 ≤ F) : jw (jm_begins F t) (fun t' => jm_k [21, 24, 25, 27, 28, 29, 30, 31, 32] [16, 17] [] t t' ∧ (t'.1 21 = nI 0 ∧ t'.1 24 = nI 0 ∧ t'.1 25 = nI 0 ∧ t'.1 27 = nI 0 ∧ t'.1 28 = nI 0 ∧ t'.1 29 = nI 0 ∧ t'.1 30 = (-1 : Int32) ∧ t'.1 31 = (-1 : Int32) ∧ t'.1 32 = nI 0) ∧ ∀ i, i < 16 → t'.2.1 16 i = nI 0 ∧ t'.2.1 17 i = (-1 : Int32)) := by
  unfold jm_begins
  simp only [jx_nx]
  unfold jm_begins_h2
  refine jw_for (σ := jm_S) 16 (fun i s => (nI i, s)) (fun i s => jm_k [21, 24, 25, 27, 28, 29, 30, 31, 32] [16, 17] [] t s ∧ ∀ j, j < i → s.2.1 16 j = nI 0 ∧ s.2.1 17 j = (-1 : Int32)) ?_ ?_ F 0 t (by omega) (by omega) ⟨jm_k.rf, fun j h => by omega⟩
  · rintro r s ⟨h1, h3⟩
    unfold jm_begins_L2
    simp only [jx_nx]
    rw [if_pos (nI_le (by omega) (by omega))]
    refine jw_some ⟨((((((((h1.setI (by decide)).setI (by decide)).setI (by decide)).setI (by decide)).setI (by decide)).setI (by decide)).setI (by decide)).setI (by decide)).setI (by decide), ⟨rfl, rfl, rfl, rfl, rfl, rfl, rfl, rfl, rfl⟩, h3⟩
  · rintro r i s hi ⟨h1, h3⟩ ih
    unfold jm_begins_L2
    simp only [jx_nx]
    rw [if_neg (nI_ge (by omega) (by omega))]
    simp only [jx_ga_nI hi (show 16 < 2 ^ 31 by decide), nI_add]
    refine ih _ ⟨(h1.setA (by decide)).setA (by decide), ?_⟩
    intro j hj
    rw [jm_An (by decide), jm_Ae, jm_Ae, jm_An (by decide)]
    by_cases e : j = i
    · rw [e, pk_us, pk_us]; exact ⟨rfl, rfl⟩
    · rw [pk_un e, pk_un e]; exact h3 j (by omega)
theorem jx_M0_begin {c : jf_S} {t : jm_S} (h8 : c.1 5 8 = nI 0) (h21 : t.1 21 = nI 0) (h12 : c.1 5 12 = nI 0) (h25 : t.1 25 = nI 0) (h1 : ∀ i, i < 16 → c.2.2.1 5 1 i = nI 0 ∧ c.2.2.1 5 2 i = (-1 : Int32)) (h2 : ∀ i, i < 16 → t.2.1 16 i = nI 0 ∧ t.2.1 17 i = (-1 : Int32)) : jx_M0 c t 0 0 := ⟨⟨by decide, h8, h21, h12, h25⟩, fun i hi => (h1 i hi).1.trans (h2 i hi).1.symm, fun i hi => (h1 i hi).2.trans (h2 i hi).2.symm, fun i hi => by omega, fun i hi => by omega⟩
theorem jx_runs {F n b p h : Nat} {c : jf_S} {t : jm_S} {w : Nat → Int32} {x1 x2 : Int32} (hF : 1000 ≤ F) (hW : jz_W w n b p h) (hC : jx_C 3 c w n b p h) (hL : jp_LN 3 n (jz_O w) c) (hw : t.2.1 1 = w) (hx2 : x2 = nI 0 ∨ x2 = nI 1) : jw2 (jk_runs F x1 x2 c) (jm_runs F x1 x2 t) (fun c' t' => jx_E c' t' ∧ jx_f5 c c' ∧ jm_k jx_tI (13 :: jx_tA) [12, 14, 15, 33] t t') := by
  have hV : jz_V w n := hW.v
  obtain ⟨hn, hw0, ho⟩ := id hV
  have hkc := jk_begins_sp (F := F) (c := c) hF
  obtain ⟨c1, ec1, f1, f2, ⟨a8, a9, a10, a11, a12, a13, a14, a15, a16, a17⟩, fc⟩ := hkc
  obtain ⟨t1, et1, k1, kFL⟩ := jm_flows_sp (F := F) (S := t) (n := n) hF (by rw [hw]; exact hV)
  have hw1 : t1.2.1 1 = w := (k1.2.1 1 (by decide)).trans hw
  have hcomp : jk_runs F x1 x2 c = jx_loop (fun r (a : Int32 × Int32 × jf_S) => jk_runs_L11 F r a.1 a.2.1 a.2.2) F (x1, nI 1, jf_setI c1 5 18 x2) := by
    unfold jk_runs
    rw [ec1, Option.bind_some]
    have hz : ∀ (k : Option jf_S), jx_gz x2 k = k := fun k => by rcases hx2 with h | h <;> rw [h] <;> first | exact if_pos (Or.inl rfl) | exact if_pos (Or.inr rfl)
    rw [hz]
    rfl
  rw [hcomp]
  unfold jm_runs
  rw [et1, Option.bind_some]
  simp only [jx_nx]
  unfold jm_runs_h6
  -- what jumps let now
  have key : ∀ m i (s : jm_S), i ≤ n → n - i < m → jm_k [] [] [33] t1 s → (∀ k, k < i → jz_j (jz_O w) k → ∃ g : Nat, g < 4 ∧ w (8 + 9 * k + 2) = nI g ∧ js (s.2.2 33 k) (jz_lt n (jz_O w) k g)) →
      jw2 (jx_loop (fun r (a : Int32 × Int32 × jf_S) => jk_runs_L11 F r a.1 a.2.1 a.2.2) F (x1, nI 1, jf_setI c1 5 18 x2)) (jx_loop (fun r (a : Int32 × Int32 × Int32 × jm_S) => jm_runs_L6 F r a.1 a.2.1 a.2.2.1 a.2.2.2) m (x1, x2, nI i, s)) (fun c' t' => jx_E c' t' ∧ jx_f5 c c' ∧ jm_k jx_tI (13 :: jx_tA) [12, 14, 15, 33] t t') := by
    intro m
    induction m with
    | zero => intro i s _ h; omega
    | succ m ih =>
      intro i s hi hm hs hl
      have e1 : s.2.1 = t1.2.1 := funext fun q => hs.2.1 q (by simp)
      have ew : s.2.1 1 = w := by rw [e1]; exact hw1
      rw [jx_loop_s]
      show jw2 _ (jm_runs_L6 F _ x1 x2 (nI i) s) _
      unfold jm_runs_L6
      rw [jm_orders_eq, Option.bind_some]
      show jw2 _ (if s.2.1 1 0 ≤ nI i then _ else _) _
      rw [ew, hw0]
      rcases Nat.lt_or_ge i n with hin | hin
      · rw [if_neg (nI_ge hin (by omega))]
        have hi4 : i < 40 := by omega
        rw [jm_isJump_eq hi4, Option.bind_some, ew]
        have hb : ∀ v : Int64, (jz_j (jz_O w) i → ∃ g : Nat, g < 4 ∧ w (8 + 9 * i + 2) = nI g ∧ js v (jz_lt n (jz_O w) i g)) → jw2 (jx_loop (fun r (a : Int32 × Int32 × jf_S) => jk_runs_L11 F r a.1 a.2.1 a.2.2) F (x1, nI 1, jf_setI c1 5 18 x2)) (jm_runs_b42 F (jx_loop (fun r (a : Int32 × Int32 × Int32 × jm_S) => jm_runs_L6 F r a.1 a.2.1 a.2.2.1 a.2.2.2) m) x1 x2 (nI i) v (nI i) s) (fun c' t' => jx_E c' t' ∧ jx_f5 c c' ∧ jm_k jx_tI (13 :: jx_tA) [12, 14, 15, 33] t t') := by
          intro v hv
          unfold jm_runs_b42
          simp only [jx_ga_nI hi4 (show 40 < 2 ^ 31 by decide), jx_nx, nI_add]
          refine ih (i + 1) _ (by omega) (by omega) (hs.setL (by simp)) ?_
          intro k hk hj
          rw [jm_Le]
          by_cases e : k = i
          · subst e; rw [pk_uLs]; exact hv hj
          · rw [pk_uLn e]; exact hl k (by omega) hj
        by_cases hj : jz_j (jz_O w) i
        · show jw2 _ (if jt _ = 0 then _ else _) _
          rw [jt_if hj]
          obtain ⟨g, hg, h2⟩ := hW.2.2.2.1 i hin
          have hFL : jm_FL n s := kFL.k (by rw [e1]) (by rw [e1]) (hs.2.2 12 (by simp)) (hs.2.2 14 (by simp)) (hs.2.2 15 (by simp))
          obtain ⟨v, ev, hv⟩ := jm_letsBy_sp (F := F) (t := s) (n := n) (k := i) (g := g) (by rw [ew]; exact hV) hFL hin (by rw [ew]; exact hj) hg
          rw [ew] at hv
          simp only [jm_of_2 hi4, Option.bind_some, ew, h2, ev]
          exact hb v (fun _ => ⟨g, hg, h2, hv⟩)
        · show jw2 _ (if jt _ = 0 then _ else _) _
          rw [jt_ifn hj]
          exact hb _ (fun z => absurd z hj)
      · have ein : i = n := by omega
        subst ein
        rw [if_pos (nI_le (Nat.le_refl _) (by omega))]
        obtain ⟨t2, et2, k2, ⟨b21, b24, b25, b27, b28, b29, b30, b31, b32⟩, kc⟩ := jm_begins_sp (F := F) (t := s) hF
        rw [et2, Option.bind_some]
        have hM0 : jx_M0 (jf_setI c1 5 18 x2) t2 0 0 := jx_M0_begin a8 b21 a12 b25 fc kc
        have hM : jx_M (jf_setI c1 5 18 x2) t2 0 0 0 := ⟨hM0, ⟨by decide, by decide, a10, b24⟩, ⟨(show c1.1 5 9 = _ from a9).trans b27.symm, (show c1.1 5 11 = _ from a11).trans b28.symm, (show c1.1 5 13 = _ from a13).trans b29.symm, (show c1.1 5 15 = _ from a15).trans b30.symm, (show c1.1 5 16 = _ from a16).trans b31.symm, by show c1.1 5 17 + nI 1 = _; rw [a17, b32]; decide⟩, fun q hq => by omega⟩
        have hR : jx_R (jf_setI c1 5 18 x2) t2 w i b p h := by
          refine ⟨hW, f1.I.C (by decide) hC, f1.I.LN (by decide) hL, (k2.2.1 1 (by decide)).trans ew, ?_⟩
          intro k hk hj
          rw [k2.2.2 33 (by simp)]
          exact hl k hk hj
        unfold jm_runs_h53
        refine jw2_mono (jx_runs_loop hF 300 F F 0 0 0 _ _ (by omega) (by omega) (by omega) hR hM a14 jf_Ie) ?_
        rintro c' t' ⟨l1, l2, l3⟩
        refine ⟨l1, f1.I.trans l2, ?_⟩
        refine (k1.wd (by simp) (by decide) (by decide)).trans ((hs.wd (by simp) (by simp) (by decide)).trans ((k2.wd (by decide) (by decide) (by simp)).trans (l3.wd (fun _ z => z) (by decide) (by simp))))
  exact key F 0 t1 (by omega) (by omega) jm_k.rf (fun k hk => by omega)
