/-! reaches; the least ticks: both sides -/
set_option maxRecDepth 100000
/-- what a question leaves as it was, in the component -/
def jx_q (c c' : jf_S) : Prop := (∀ p, p = 3 ∨ p = 4 → c'.1 p = c.1 p ∧ c'.2.2.1 p = c.2.2.1 p) ∧ (c'.1 0 12 = c.1 0 12 ∧ c'.1 0 15 = c.1 0 15 ∧ c'.1 1 4 = c.1 1 4 ∧ c'.2.2.1 1 0 = c.2.2.1 1 0) ∧ c'.2.1 = c.2.1 ∧ c'.2.2.2 = c.2.2.2
theorem jx_q.rf {c : jf_S} : jx_q c c := ⟨fun _ _ => ⟨rfl, rfl⟩, ⟨rfl, rfl, rfl, rfl⟩, rfl, rfl⟩
theorem jx_q.trans {c c1 c2 : jf_S} (h : jx_q c c1) (k : jx_q c1 c2) : jx_q c c2 := ⟨fun p hp => ⟨(k.1 p hp).1.trans (h.1 p hp).1, (k.1 p hp).2.trans (h.1 p hp).2⟩, ⟨k.2.1.1.trans h.2.1.1, k.2.1.2.1.trans h.2.1.2.1, k.2.1.2.2.1.trans h.2.1.2.2.1, k.2.1.2.2.2.trans h.2.1.2.2.2⟩, k.2.2.1.trans h.2.2.1, k.2.2.2.trans h.2.2.2⟩
theorem jx_q.of5 {c c' : jf_S} (h : jx_f5 c c') : jx_q c c' := ⟨fun p hp => ⟨h.1 p (by omega), h.2.2.1 p (by omega)⟩, ⟨by rw [h.1 0 (by decide)], by rw [h.1 0 (by decide)], by rw [h.1 1 (by decide)], by rw [h.2.2.1 1 (by decide)]⟩, h.2.1, h.2.2.2⟩
theorem jx_q.ofk {Is As : List (Nat × Nat)} {c c' : jf_S} (h : jf_k Is [] As [] c c') (h1 : ∀ q ∈ Is, q.1 = 0 ∧ q.2 ≠ 12 ∧ q.2 ≠ 15) (h2 : ∀ q ∈ As, q.1 = 0) : jx_q c c' := by
  refine ⟨fun p hp => ⟨funext fun k => h.1 p k (fun z => ?_), funext fun k => h.2.2.1 p k (fun z => ?_)⟩, ⟨h.1 0 12 (fun z => (h1 _ z).2.1 rfl), h.1 0 15 (fun z => (h1 _ z).2.2 rfl), h.1 1 4 (fun z => absurd (h1 _ z).1 (by decide)), h.2.2.1 1 0 (fun z => absurd (h2 _ z) (by decide))⟩, funext fun p => funext fun k => h.2.1 p k (by simp), ?_⟩
  · have := (h1 _ z).1
    dsimp only at this
    omega
  · have := h2 _ z
    dsimp only at this
    omega
  · refine Prod.ext (funext fun p => funext fun k => h.2.2.2.1 p k (by simp)) h.2.2.2.2
theorem jx_q.C {o : Nat} {c c1 : jf_S} {w : Nat → Int32} {n b p h : Nat} (hf : jx_q c c1) (ho : o = 3 ∨ o = 4) (hC : jx_C o c w n b p h) : jx_C o c1 w n b p h := hC.k (fun k _ _ => by rw [(hf.1 o ho).1]) (fun k _ _ => by rw [(hf.1 o ho).2]) (by rw [hf.2.2.2])
theorem jx_q.LN {o n : Nat} {O : Nat → Nat → Int32} {c c1 : jf_S} (hf : jx_q c c1) (ho : o = 3 ∨ o = 4) (hL : jp_LN o n O c) : jp_LN o n O c1 := hL.k (fun k => by rw [hf.2.2.2]) (by rw [(hf.1 o ho).1]) (by rw [hf.2.2.1])
/-- what a question leaves as it was, in the twin -/
def jm_q (t t' : jm_S) : Prop := (t'.1 0 = t.1 0 ∧ t'.1 3 = t.1 3 ∧ t'.1 5 = t.1 5 ∧ t'.1 7 = t.1 7 ∧ t'.1 9 = t.1 9) ∧ t'.2.1 1 = t.2.1 1 ∧ t'.2.1 2 = t.2.1 2 ∧ t'.2.1 4 = t.2.1 4
theorem jm_q.rf {t : jm_S} : jm_q t t := ⟨⟨rfl, rfl, rfl, rfl, rfl⟩, rfl, rfl, rfl⟩
theorem jm_q.trans {t t1 t2 : jm_S} (h : jm_q t t1) (k : jm_q t1 t2) : jm_q t t2 := ⟨⟨k.1.1.trans h.1.1, k.1.2.1.trans h.1.2.1, k.1.2.2.1.trans h.1.2.2.1, k.1.2.2.2.1.trans h.1.2.2.2.1, k.1.2.2.2.2.trans h.1.2.2.2.2⟩, k.2.1.trans h.2.1, k.2.2.1.trans h.2.2.1, k.2.2.2.trans h.2.2.2⟩
theorem jm_q.ofk {Is As Ls : List Nat} {t t' : jm_S} (h : jm_k Is As Ls t t') (h1 : ∀ i, i ∈ Is → 10 ≤ i) (h2 : ∀ i, i ∈ As → 5 ≤ i) : jm_q t t' := by
  refine ⟨⟨h.1 0 (fun z => ?_), h.1 3 (fun z => ?_), h.1 5 (fun z => ?_), h.1 7 (fun z => ?_), h.1 9 (fun z => ?_)⟩, h.2.1 1 (fun z => ?_), h.2.1 2 (fun z => ?_), h.2.1 4 (fun z => ?_)⟩
  · exact absurd (h1 _ z) (by decide)
  · exact absurd (h1 _ z) (by decide)
  · exact absurd (h1 _ z) (by decide)
  · exact absurd (h1 _ z) (by decide)
  · exact absurd (h1 _ z) (by decide)
  · exact absurd (h2 _ z) (by decide)
  · exact absurd (h2 _ z) (by decide)
  · exact absurd (h2 _ z) (by decide)
theorem jx_reaches {F n b p h pw hm : Nat} {c : jf_S} {t : jm_S} {w : Nat → Int32} (hF : 2000 ≤ F) (hW : jz_W w n b p h) (hC : jx_C 3 c w n b p h) (hL : jp_LN 3 n (jz_O w) c) (hw : t.2.1 1 = w) (hp : pw < p) (hh : hm < h) :
    jw2 (jf_reaches F (nI pw) (nI hm) c) (jm_reachOf F (nI pw) (nI hm) t) (fun q q' => q.1 = q'.1 ∧ jx_q c q.2 ∧ jm_q t q'.2) := by
  have hh8 : hm < 8 := by have := hW.1.2.2.2; omega
  unfold jf_reaches jm_reachOf
  refine jw2_call (jx_finds hF hW hC hL hw hp hh) ?_
  rintro ⟨x, c1⟩ t1 ⟨h1, h2, h3⟩
  dsimp only at h1 h3
  have hq1 : jx_q c c1 := jx_q.ofk h1 (by decide) (by decide)
  have hqt : jm_q t t1 := jm_q.ofk h2 (by decide) (by decide)
  have hC1 := hq1.C (Or.inl rfl) hC
  have hL1 := hq1.LN (Or.inl rfl) hL
  rcases h3 with ⟨e1, e2, e3⟩ | ⟨e1, m, hP⟩
  · simp only [e1, e3, if_pos (show nI 0 = (0 : Int32) from rfl)]
    refine jw2_some ?_
    exact ⟨rfl, hq1, hqt⟩
  · have hne : ¬ nI m = (0 : Int32) := nI_ne0 (by have := hP.1; omega) (by have := hP.2.1; omega)
    simp only [e1, hP.2.2.2.1, if_neg hne, if_neg (show ¬ nI 1 = (0 : Int32) by decide), jx_ga_nI hh8 (show 8 < 2 ^ 31 by decide), hC1.2.2.2.2.2.1 hm hh]
    refine jw2_call (jx_tried (by omega) hW hC1 hL1 (hqt.2.1.trans hw) hp hh hP) ?_
    rintro ⟨y, c2⟩ ⟨y', t2⟩ ⟨g1, g2, g3, g4⟩
    dsimp only at g1 g2 g3 g4
    rw [← g1]
    have hq2 : jx_q c c2 := hq1.trans (jx_q.of5 g3)
    have hqt2 : jm_q t t2 := hqt.trans (jm_q.ofk g4 (by decide) (by decide))
    rcases g2 with e | e
    · simp only [e, if_pos (show nI 0 = (0 : Int32) from rfl)]
      refine jw2_some ?_
      exact ⟨rfl, hq2, hqt2⟩
    · simp only [e, if_neg (show ¬ nI 1 = (0 : Int32) by decide)]
      refine jw2_some ?_
      exact ⟨rfl, hq2, hqt2⟩
theorem jn_eq0_if {α : Type} {k : Nat} {a b : α} (h : k < 2 ^ 31) : (if nI k = 0 then a else b) = if k = 0 then a else b := by
  by_cases h0 : k = 0
  · rw [if_pos h0, if_pos ((jn_eq0 h).mpr h0)]
  · rw [if_neg h0, if_neg (fun z => h0 ((jn_eq0 h).mp z))]
/-! grades are chosen -/
/-- the two searches agree behind k choices -/
def jx_H (c0 : jf_S) (t0 : jm_S) (n q : Nat) (sm : Nat → Nat) (k : Nat) (c : jf_S) (t : jm_S) : Prop := jf_k [(0, 13), (0, 14)] [] [(0, 6), (0, 7)] [] c0 c ∧ jm_k [43] [34, 39, 40] [35] t0 t ∧
  (∃ gr : Nat → Nat, (∀ j, j < n → gr j < 4 ∧ c.2.2.1 0 6 j = nI (gr j) ∧ t.2.1 34 j = nI (gr j)) ∧ ∀ i, i < k → t.2.1 39 i = nI (gr (sm i))) ∧
  ((c.1 0 14 = nI 0 ∧ t.1 43 = (-1 : Int32)) ∨ (c.1 0 14 = nI 1 ∧ ∃ L : Nat, L < 2000 ∧ c.1 0 13 = nI L ∧ t.1 43 = nI L ∧ ∀ i, i < q → c.2.2.1 0 7 (sm i) = t.2.1 40 i))
theorem jx_chooses {F n b p h pw q : Nat} {c0 : jf_S} {t0 : jm_S} {w : Nat → Int32} {sm : Nat → Nat} {dv : Int64} (hF : 1000 ≤ F) (hW : jz_W w n b p h) (hC : jx_C 3 c0 w n b p h) (hL : jp_LN 3 n (jz_O w) c0) (hw : t0.2.1 1 = w) (hT : jm_FL n t0) (hp : pw < p) (hq : q ≤ 6) (hsm : ∀ i, i < q → sm i < n) (hinj : ∀ i j, i < q → j < q → sm i = sm j → i = j) (hc11 : c0.1 0 11 = nI q) (hc8 : ∀ i, i < q → c0.2.2.1 0 8 i = nI (sm i)) (ht42 : t0.1 42 = nI q) (ht41 : ∀ i, i < q → t0.2.1 41 i = nI (sm i)) :
    ∀ (e k s d1 d2 : Nat) (c : jf_S) (t : jm_S), k + e = q → e < d1 → e < d2 → s ≤ 99 * k → jx_H c0 t0 n q sm k c t →
      jw2 (jx_loop (fun rc (a : Int32 × Int32 × Int64 × Int32 × jf_S) => jf_chooses_B F rc a.1 a.2.1 a.2.2.1 a.2.2.2.1 a.2.2.2.2) d1 (nI k, nI pw, dv, nI s, c)) (jx_loop (fun rc (a : Int32 × Int32 × Int32 × Int64 × jm_S) => jm_chooses_B F rc a.1 a.2.1 a.2.2.1 a.2.2.2.1 a.2.2.2.2) d2 (nI k, nI s, nI pw, dv, t)) (fun c' t' => jx_H c0 t0 n q sm k c' t') := by
  have hV : jz_V w n := hW.v
  obtain ⟨hn, hw0, ho⟩ := id hV
  have hp6 : pw < 6 := by have := hW.1.2.2.1; omega
  intro e
  induction e with
  | zero =>
    intro k s d1 d2 c t hke hd1 hd2 hs hH
    have hkq : k = q := by omega
    subst hkq
    cases d1 with
    | zero => omega
    | succ d1 =>
      cases d2 with
      | zero => omega
      | succ d2 =>
        obtain ⟨hc, ht, ⟨gr, hgr, hch⟩, hfd⟩ := id hH
        rw [jx_loop_s, jx_loop_s]
        show jw2 (jf_chooses_B F _ (nI k) (nI pw) dv (nI s) c) (jm_chooses_B F _ (nI k) (nI s) (nI pw) dv t) _
        have hcq : jx_q c0 c := jx_q.ofk hc (by decide) (by decide)
        have hC1 := hcq.C (Or.inl rfl) hC
        have hL1 := hcq.LN (Or.inl rfl) hL
        have hw1 : t.2.1 1 = w := (ht.2.1 1 (by decide)).trans hw
        have hT1 : jm_FL n t := hT.k (hw1.trans hw.symm) (ht.2.1 13 (by decide)) (ht.2.2 12 (by decide)) (ht.2.2 14 (by decide)) (ht.2.2 15 (by decide))
        have e11 : c.1 0 11 = nI k := (hc.1 0 11 (by decide)).trans hc11
        have e42 : t.1 42 = nI k := (ht.1 42 (by decide)).trans ht42
        have hleaf : ∀ (rc : Int32 × Int32 × Int64 × Int32 × jf_S → Option jf_S) (rc' : Int32 × Int32 × Int32 × Int64 × jm_S → Option jm_S), jw2 (jf_chooses_b17 F rc (nI k) (nI pw) dv (nI s) c) (jm_chooses_b16 F rc' (nI k) (nI s) (nI pw) dv t) (fun c' t' => jx_H c0 t0 n k sm k c' t') := by
          intro rc rc'
          obtain ⟨v, ev, hv⟩ := jp_closed_sp (F := F) (c := c) (pw := pw) (go := 0) (gk := 6) (gr := gr) hF hW hC1 hL1 hp (fun j hj => ⟨(hgr j hj).1, (hgr j hj).2.1⟩)
          obtain ⟨t1, et1, k1, hm1⟩ := jm_ways_sp (F := F) (t := t) (pw := pw) (gr := gr) hF hV hw1 hT1 hp6 (fun j hj => ⟨(hgr j hj).1, (hgr j hj).2.2⟩)
          have hw2 : t1.2.1 1 = w := (k1.2.1 1 (by simp)).trans hw1
          obtain ⟨v', ev', hv'⟩ := jm_closedSet_sp (F := F) (t := t1) (n := n) (R := jz_MR w n pw gr) hF hn (by rw [hw2]; exact hw0) (fun x y z => z.1) hm1
          have evv : v' = v := js_uniq hv' hv
          unfold jf_chooses_b17 jm_chooses_b16
          simp only [e11, e42, if_true, ev, et1, ev', Option.bind_some, evv]
          have hk1 : jm_k [43] [34, 39, 40] [35] t0 t1 := ht.trans (k1.wd (by simp) (by simp) (by simp))
          have eA : t1.2.1 = t.2.1 := funext fun i => k1.2.1 i (by simp)
          by_cases hz : lg_cmp (v &&& dv) (lN 0) = 0
          · simp only [if_pos hz, jx_nx]
            unfold jm_chooses_h50
            -- the twin keeps what is chosen
            have hloop : jw (jx_loop (fun r (a : Int32 × Int32 × jm_S) => jm_chooses_L50 F rc' r a.1 a.2.1 a.2.2) F (nI k, nI 0, jm_setI t1 43 (nI s))) (fun t2 => jm_k [] [40] [] (jm_setI t1 43 (nI s)) t2 ∧ ∀ i, i < k → t2.2.1 40 i = t1.2.1 39 i) := by
              refine jw_for (σ := jm_S) k (fun i s => (nI k, nI i, s)) (fun i t2 => jm_k [] [40] [] (jm_setI t1 43 (nI s)) t2 ∧ ∀ j, j < i → t2.2.1 40 j = t1.2.1 39 j) ?_ ?_ F 0 _ (by omega) (by omega) ⟨jm_k.rf, fun j hj => by omega⟩
              · rintro r t2 ⟨g1, g2⟩
                unfold jm_chooses_L50
                rw [if_pos (nI_le (Nat.le_refl _) (by omega))]
                exact jw_some ⟨g1, g2⟩
              · rintro r i t2 hi ⟨g1, g2⟩ ih
                unfold jm_chooses_L50
                rw [if_neg (nI_ge hi (by omega))]
                simp only [jx_ga_nI (show i < 6 by omega) (show 6 < 2 ^ 31 by decide), jx_nx, nI_add]
                refine ih _ ⟨g1.setA (by decide), fun j hj => ?_⟩
                rw [jm_Ae]
                by_cases ej : j = i
                · rw [ej, pk_us, g1.2.1 39 (by decide)]; rfl
                · rw [pk_un ej]; exact g2 j (by omega)
            obtain ⟨t2, et2, g1, g2⟩ := hloop
            rw [et2]
            refine jw2_some ?_
            refine ⟨((hc.setI (by decide)).setI (by decide)).setA (by decide), hk1.trans ((jm_k.rf.setI (by decide)).trans (g1.wd (by simp) (by decide) (by simp))), ⟨gr, fun j hj => ⟨(hgr j hj).1, (hgr j hj).2.1, ?_⟩, fun i hi => ?_⟩, Or.inr ⟨rfl, s, by omega, rfl, ?_, fun i hi => ?_⟩⟩
            · rw [g1.2.1 34 (by decide)]; show t1.2.1 34 j = _; rw [eA]; exact (hgr j hj).2.2
            · rw [g1.2.1 39 (by decide)]; show t1.2.1 39 i = _; rw [eA]; exact hch i hi
            · rw [g1.1 43 (by simp)]; exact jm_Ie
            · rw [g2 i hi, eA, hch i hi]
              show va_cpy (c.2.2.1 0 6) (c.2.2.1 0 7) 0 0 40 (sm i) = _
              rw [pk_cpy_in (by omega) (by have := hsm i hi; omega), Nat.sub_zero, Nat.zero_add]
              exact (hgr (sm i) (hsm i hi)).2.1
          · simp only [if_neg hz]
            refine jw2_some ?_
            refine ⟨hc, hk1, ⟨gr, fun j hj => ⟨(hgr j hj).1, (hgr j hj).2.1, by rw [eA]; exact (hgr j hj).2.2⟩, fun i hi => by rw [eA]; exact hch i hi⟩, ?_⟩
            rw [k1.1 43 (by simp), eA]
            exact hfd
        unfold jf_chooses_B jm_chooses_B
        rcases hfd with ⟨f1, f2⟩ | ⟨f1, L, hL2, f2, f3, f4⟩
        · rw [f1, f2, if_pos (by decide), if_pos (by decide)]
          exact hleaf _ _
        · rw [f1, f2, f3, if_neg (by decide), if_neg (nI_pos (by omega))]
          by_cases hlt : nI s < nI L
          · simp only [if_pos hlt]
            exact hleaf _ _
          · simp only [if_neg hlt]
            refine jw2_some ?_
            exact hH
  | succ e ih =>
    intro k s d1 d2 c t hke hd1 hd2 hs hH
    cases d1 with
    | zero => omega
    | succ d1 =>
      cases d2 with
      | zero => omega
      | succ d2 =>
        obtain ⟨hc, ht, ⟨gr, hgr, hch⟩, hfd⟩ := id hH
        rw [jx_loop_s, jx_loop_s]
        show jw2 (jf_chooses_B F _ (nI k) (nI pw) dv (nI s) c) (jm_chooses_B F _ (nI k) (nI s) (nI pw) dv t) _
        have hk6 : k < 6 := by omega
        have hkq : k < q := by omega
        have hsk := hsm k hkq
        have hsk4 : sm k < 40 := by omega
        have hnode : jw2 (jf_chooses_b17 F (jx_loop (fun rc (a : Int32 × Int32 × Int64 × Int32 × jf_S) => jf_chooses_B F rc a.1 a.2.1 a.2.2.1 a.2.2.2.1 a.2.2.2.2) d1) (nI k) (nI pw) dv (nI s) c) (jm_chooses_b16 F (jx_loop (fun rc (a : Int32 × Int32 × Int32 × Int64 × jm_S) => jm_chooses_B F rc a.1 a.2.1 a.2.2.1 a.2.2.2.1 a.2.2.2.2) d2) (nI k) (nI s) (nI pw) dv t) (fun c' t' => jx_H c0 t0 n q sm k c' t') := by
          have e11 : c.1 0 11 = nI q := (hc.1 0 11 (by decide)).trans hc11
          have e42 : t.1 42 = nI q := (ht.1 42 (by decide)).trans ht42
          have hne : ¬ nI k = nI q := by rw [nI_eq (by omega) (by omega)]; omega
          have e8 : c.2.2.1 0 8 = c0.2.2.1 0 8 := hc.2.2.1 0 8 (by decide)
          have e41 : t.2.1 41 = t0.2.1 41 := ht.2.1 41 (by decide)
          have hcq : jx_q c0 c := jx_q.ofk hc (by decide) (by decide)
          have hC1 := hcq.C (Or.inl rfl) hC
          obtain ⟨rc, hrc, hrc2⟩ := hC1.1.2 _ hsk
          have hwr : ∃ wd : Nat, wd < 10 ∧ rc 0 = nI wd := by rw [hrc2 0 (by decide) (by decide)]; exact (ho _ hsk).wd
          -- the last grade
          obtain ⟨lg, hlg, hlg1, hlg2⟩ : ∃ lg : Nat, lg < 4 ∧ (∀ (α : Type) (f : Nat → α), (if jz_O w (sm k) 0 = nI 7 then f 3 else f 2) = f lg) ∧ True := by
            by_cases h7 : jz_O w (sm k) 0 = nI 7
            · exact ⟨3, by decide, fun α f => if_pos h7, trivial⟩
            · exact ⟨2, by decide, fun α f => if_neg h7, trivial⟩
          have hcmp : jf_chooses_b17 F (jx_loop (fun rc (a : Int32 × Int32 × Int64 × Int32 × jf_S) => jf_chooses_B F rc a.1 a.2.1 a.2.2.1 a.2.2.2.1 a.2.2.2.2) d1) (nI k) (nI pw) dv (nI s) c = jf_chooses_h104 F (jx_loop (fun rc (a : Int32 × Int32 × Int64 × Int32 × jf_S) => jf_chooses_B F rc a.1 a.2.1 a.2.2.1 a.2.2.2.1 a.2.2.2.2) d1) F (nI k, nI pw, dv, nI s, nI lg, nI 0, c) := by
            unfold jf_chooses_b17 jf_chooses_b99
            simp only [e11, if_neg hne, jx_ga_nI hk6 (show 6 < 2 ^ 31 by decide), e8, hc8 k hkq, jx_ga_nI hsk4 (show 40 < 2 ^ 31 by decide), hrc, Option.bind_some, jv_word_eq hwr, hrc2 0 (by decide) (by decide), jx_nx]
            exact hlg1 _ (fun x => jf_chooses_h104 F (jx_loop (fun rc (a : Int32 × Int32 × Int64 × Int32 × jf_S) => jf_chooses_B F rc a.1 a.2.1 a.2.2.1 a.2.2.2.1 a.2.2.2.2) d1) F (nI k, nI pw, dv, nI s, nI x, nI 0, c))
          have htwn : jm_chooses_b16 F (jx_loop (fun rc (a : Int32 × Int32 × Int32 × Int64 × jm_S) => jm_chooses_B F rc a.1 a.2.1 a.2.2.1 a.2.2.2.1 a.2.2.2.2) d2) (nI k) (nI s) (nI pw) dv t = jm_chooses_h88 F (jx_loop (fun rc (a : Int32 × Int32 × Int32 × Int64 × jm_S) => jm_chooses_B F rc a.1 a.2.1 a.2.2.1 a.2.2.2.1 a.2.2.2.2) d2) F (nI k, nI s, nI pw, dv, nI (sm k), nI 0, t) := by
            unfold jm_chooses_b16
            simp only [e42, if_neg hne, jx_ga_nI hk6 (show 6 < 2 ^ 31 by decide), e41, ht41 k hkq, jx_nx]
          rw [hcmp, htwn]
          unfold jf_chooses_h104 jm_chooses_h88
          refine jw2_for (σ := jf_S × jm_S) (lg + 1) (fun g s2 => (nI k, nI pw, dv, nI s, nI lg, nI g, s2.1)) (fun g s2 => (nI k, nI s, nI pw, dv, nI (sm k), nI g, s2.2)) (fun g s2 => jx_H c0 t0 n q sm k s2.1 s2.2) ?_ ?_ F F 0 (c, t) (by omega) (by omega) (by omega) hH
          · rintro r1 r2 ⟨c1, t1⟩ h1
            dsimp only at h1
            have hw1 : t1.2.1 1 = w := (h1.2.1.2.1 1 (by decide)).trans hw
            unfold jf_chooses_L104 jm_chooses_L88 jm_chooses_b106
            have hlt : nI lg < nI (lg + 1) := nI_lt (by omega) (by omega)
            simp only [if_pos hlt, jm_wordOf_eq hsk4, Option.bind_some, hw1]
            have e9 := hlg1 (Option jm_S) (fun x => if nI x < nI (lg + 1) then some t1 else some t1)
            refine ⟨c1, t1, rfl, ?_, h1⟩
            by_cases h7 : jz_O w (sm k) 0 = nI 7
            · have e3 : lg = 3 := by
                have := hlg1 Nat (fun x => x)
                rw [if_pos h7] at this
                exact this.symm
              rw [if_pos h7]
              exact if_pos (by rw [e3]; decide)
            · have e2 : lg = 2 := by
                have := hlg1 Nat (fun x => x)
                rw [if_neg h7] at this
                exact this.symm
              rw [if_neg h7]
              exact if_pos (by rw [e2]; decide)
          · rintro r1 r2 g ⟨c1, t1⟩ hg h1 ih2
            dsimp only at h1
            obtain ⟨k1, k2, ⟨gr1, hgr1, hch1⟩, hfd1⟩ := id h1
            have hw1 : t1.2.1 1 = w := (k2.2.1 1 (by decide)).trans hw
            have hcq1 : jx_q c0 c1 := jx_q.ofk k1 (by decide) (by decide)
            have hC2 := hcq1.C (Or.inl rfl) hC
            have e81 : c1.2.2.1 0 8 = c0.2.2.1 0 8 := k1.2.2.1 0 8 (by decide)
            have hnlt : ¬ nI lg < nI g := nI_nlt (by omega) (by omega)
            have hg4 : g < 4 := by omega
            have etk : (jf_setA c1 0 6 (upd (c1.2.2.1 0 6) (sm k) (nI g))).2.2.1 3 2 g = w (4 + g) := by show c1.2.2.1 3 2 g = _; exact hC2.2.2.1 g hg4
            -- what a grade costs
            obtain ⟨tk, htk, etk2⟩ : ∃ tk : Nat, tk ≤ 99 ∧ w (4 + g) = nI tk := by
              rcases Nat.eq_zero_or_pos g with h | h
              · rw [h]; exact ⟨0, by omega, hW.2.2.2.2.1⟩
              · obtain ⟨tk, _, h2, h3⟩ := hW.2.2.2.2.2.1 g h hg4
                exact ⟨tk, h2, h3⟩
            have hticks : ∀ t3 : jm_S, t3.2.1 1 = w → jm_ticksOf F (nI g) t3 = some (nI tk, t3) := by
              intro t3 e3
              unfold jm_ticksOf
              rw [jn_eq0_if (show g < 2 ^ 31 by omega)]
              by_cases g0 : g = 0
              · rw [if_pos g0]
                rw [g0, show 4 + 0 = 4 from rfl, hW.2.2.2.2.1] at etk2
                rw [← etk2]
                rfl
              · rw [if_neg g0, nI_add, jx_ga_nI (by omega) (by decide), e3, etk2]
            unfold jf_chooses_L104 jm_chooses_L88
            simp only [if_neg hnlt, jx_ga_nI hk6 (show 6 < 2 ^ 31 by decide), e81, hc8 k hkq, jx_ga_nI hsk4 (show 40 < 2 ^ 31 by decide), jx_nx, jx_ga_nI hg4 (show 4 < 2 ^ 31 by decide), etk, etk2, nI_add, jm_wordOf_eq hsk4, Option.bind_some, hw1]
            have hb106 : (if jz_O w (sm k) 0 = nI 7 then jm_chooses_b106 F (jx_loop (fun rc (a : Int32 × Int32 × Int32 × Int64 × jm_S) => jm_chooses_B F rc a.1 a.2.1 a.2.2.1 a.2.2.2.1 a.2.2.2.2) d2) r2 (nI k) (nI s) (nI pw) dv (nI (sm k)) (nI g) (nI 3) (nI g) t1 else jm_chooses_b106 F (jx_loop (fun rc (a : Int32 × Int32 × Int32 × Int64 × jm_S) => jm_chooses_B F rc a.1 a.2.1 a.2.2.1 a.2.2.2.1 a.2.2.2.2) d2) r2 (nI k) (nI s) (nI pw) dv (nI (sm k)) (nI g) (nI 2) (nI g) t1) = jm_chooses_b106 F (jx_loop (fun rc (a : Int32 × Int32 × Int32 × Int64 × jm_S) => jm_chooses_B F rc a.1 a.2.1 a.2.2.1 a.2.2.2.1 a.2.2.2.2) d2) r2 (nI k) (nI s) (nI pw) dv (nI (sm k)) (nI g) (nI lg) (nI g) t1 := hlg1 _ (fun x => jm_chooses_b106 F (jx_loop (fun rc (a : Int32 × Int32 × Int32 × Int64 × jm_S) => jm_chooses_B F rc a.1 a.2.1 a.2.2.1 a.2.2.2.1 a.2.2.2.2) d2) r2 (nI k) (nI s) (nI pw) dv (nI (sm k)) (nI g) (nI x) (nI g) t1)
            rw [hb106]
            unfold jm_chooses_b106
            have ht3 : (jm_setA (jm_setA t1 39 (upd (t1.2.1 39) k (nI g))) 34 (upd (t1.2.1 34) (sm k) (nI g))).2.1 1 = w := hw1
            simp only [if_neg hnlt, jx_ga_nI hk6 (show 6 < 2 ^ 31 by decide), jx_ga_nI hsk4 (show 40 < 2 ^ 31 by decide), jx_nx, nI_add]
            have etq := hticks _ ht3
            have e34 : (jm_setA t1 39 (upd (t1.2.1 39) k (nI g))).2.1 34 = t1.2.1 34 := rfl
            rw [e34, etq, Option.bind_some]
            dsimp only
            rw [nI_add]
            refine jw2_call (ih (k + 1) (s + tk) d1 d2 _ _ (by omega) (by omega) (by omega) (by omega) ?_) ?_
            · refine ⟨k1.setA (by decide), (k2.setA (by decide)).setA (by decide), ⟨fun j => if j = sm k then g else gr1 j, fun j hj => ?_, fun i hi => ?_⟩, hfd1⟩
              · show (if j = sm k then g else gr1 j) < 4 ∧ upd (c1.2.2.1 0 6) (sm k) (nI g) j = nI (if j = sm k then g else gr1 j) ∧ upd (t1.2.1 34) (sm k) (nI g) j = nI (if j = sm k then g else gr1 j)
                by_cases ej : j = sm k
                · rw [if_pos ej, ej, pk_us, pk_us]; exact ⟨hg4, rfl, rfl⟩
                · rw [if_neg ej, pk_un ej, pk_un ej]; exact hgr1 j hj
              · show upd (t1.2.1 39) k (nI g) i = nI (if sm i = sm k then g else gr1 (sm i))
                by_cases ei : i = k
                · rw [ei, pk_us, if_pos rfl]
                · rw [pk_un ei, if_neg (fun z => ei (hinj i k (by omega) hkq z))]; exact hch1 i (by omega)
            · rintro c2 t2 hH2
              obtain ⟨l1, l2, ⟨gr2, l3, l4⟩, l5⟩ := hH2
              exact ih2 (c2, t2) ⟨l1, l2, ⟨gr2, l3, fun i hi => l4 i (by omega)⟩, l5⟩
        unfold jf_chooses_B jm_chooses_B
        rcases hfd with ⟨f1, f2⟩ | ⟨f1, L, hL2, f2, f3, f4⟩
        · rw [f1, f2, if_pos (by decide), if_pos (by decide)]
          exact hnode
        · rw [f1, f2, f3, if_neg (by decide), if_neg (nI_pos (by omega))]
          by_cases hlt : nI s < nI L
          · simp only [if_pos hlt]
            exact hnode
          · simp only [if_neg hlt]
            refine jw2_some ?_
            exact hH
