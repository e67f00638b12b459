/-! the row to a harm, found: both sides; what the breaker bends -/
set_option maxRecDepth 100000
def jz_gr (w : Nat → Int32) (k : Nat) : Nat := (w (8 + 9 * k + 2)).toNatClampNeg
theorem jz_gr_eq {w : Nat → Int32} {n b p h k : Nat} (hW : jz_W w n b p h) (hk : k < n) : jz_gr w k < 4 ∧ w (8 + 9 * k + 2) = nI (jz_gr w k) := by
  obtain ⟨g, hg, e⟩ := hW.2.2.2.1 k hk
  have : jz_gr w k = g := by unfold jz_gr; rw [e, nI_clamp (by omega)]
  rw [this]
  exact ⟨hg, e⟩
theorem jf_k_C {Is Js As Ls : List (Nat × Nat)} {c c' : jf_S} {w : Nat → Int32} {n b p h : Nat} (hk : jf_k Is Js As Ls c c') (hC : jx_C 3 c w n b p h) (h1 : ∀ k, (3, k) ∉ Is) (h2 : ∀ k, (3, k) ∉ As) : jx_C 3 c' w n b p h := hC.k (fun k _ _ => hk.1 3 k (h1 k)) (fun k _ _ => hk.2.2.1 3 k (h2 k)) (by rw [hk.2.2.2.2])
theorem jf_k_LN {Is Js As Ls : List (Nat × Nat)} {c c' : jf_S} {n : Nat} {O : Nat → Nat → Int32} (hk : jf_k Is Js As Ls c c') (hL : jp_LN 3 n O c) (h1 : ∀ k, (3, k) ∉ Is) (h2 : ∀ k, (3, k) ∉ Js) (h3 : ∀ k, (3, k) ∉ Ls) : jp_LN 3 n O c' := hL.k (fun k => hk.2.2.2.1 3 k (h3 k)) (hk.1 3 17 (h1 17)) (hk.2.1 3 18 (h2 18))
theorem jx_finds {F n b p h pw hm : Nat} {c : jf_S} {t : jm_S} {w : Nat → Int32} (hF : 2000 ≤ F) (hW : jz_W w n b p h) (hC : jx_C 3 c w n b p h) (hL : jp_LN 3 n (jz_O w) c) (hw : t.2.1 1 = w) (hp : pw < p) (hh : hm < h) :
    jw2 (jf_finds F (nI pw) (nI hm) c) (jm_finds F (nI pw) (nI hm) t) (fun q t' => jf_k [(0, 10)] [] [(0, 4), (0, 5)] [] c q.2 ∧ jm_k [38] [13, 34, 36, 37] [12, 14, 15, 35] t t' ∧ ((q.1 = nI 0 ∧ q.2.1 0 10 = nI 0 ∧ t'.1 38 = nI 0) ∨ (q.1 = nI 1 ∧ ∃ m, jx_P n (jz_MR w n pw (jz_gr w)) (jz_dr w n hm) q.2 t' m))) := by
  have hV : jz_V w n := hW.v
  obtain ⟨hn, h0, ho⟩ := id hV
  have hp6 : pw < 6 := by have := hW.1.2.2.1; omega
  have hh8 : hm < 8 := by have := hW.1.2.2.2; omega
  have hA : ∀ k, jz_dr w n hm k → k < n := fun k z => z.1
  have hR : ∀ x y, jz_MR w n pw (jz_gr w) x y → y < n := fun x y z => z.1
  obtain ⟨t1, et1, k1, hFL⟩ := jm_flows_sp (F := F) (S := t) (n := n) (by omega) (by rw [hw]; exact hV)
  have hw1 : t1.2.1 1 = w := (k1.2.1 1 (by decide)).trans hw
  obtain ⟨t2, et2, k2, hg2⟩ := jm_gradesNow_sp (F := F) (t := t1) (n := n) (by omega) hn (by rw [hw1]; exact h0)
  have hw2 : t2.2.1 1 = w := (k2.2.1 1 (by decide)).trans hw1
  have hFL2 : jm_FL n t2 := hFL.k (hw2.trans hw1.symm) (k2.2.1 13 (by decide)) (k2.2.2 12 (by simp)) (k2.2.2 14 (by simp)) (k2.2.2 15 (by simp))
  obtain ⟨t3, et3, k3, hm3⟩ := jm_ways_sp (F := F) (t := t2) (pw := pw) (gr := jz_gr w) (by omega) hV hw2 hFL2 hp6 (fun k hk => ⟨(jz_gr_eq hW hk).1, by rw [hg2 k hk, hw1]; exact (jz_gr_eq hW hk).2⟩)
  have hw3 : t3.2.1 1 = w := (k3.2.1 1 (by simp)).trans hw2
  obtain ⟨dv, ed, hd⟩ := jm_doorsOf_sp (F := F) (t := t3) (hm := hm) (by omega) hV hw3 hh8
  obtain ⟨dc, edc, hdc⟩ := jp_doors_sp (F := F) (c := c) (hm := hm) (by omega) hW hC hh
  have hk13 : jm_k [38] [13, 34, 36, 37] [12, 14, 15, 35] t t3 := (k1.wd (by simp) (by decide) (by decide)).trans ((k2.wd (by simp) (by decide) (by simp)).trans (k3.wd (by simp) (by simp) (by decide)))
  have hmay : ∀ (s : jf_S), jf_k [(0, 10)] [] [(0, 4), (0, 5)] [] c s → ∀ k, k < n → ∃ u, jp_may F 3 3 1 (nI k) (nI pw) s = some (u, s) ∧ js u (jz_MR w n pw (jz_gr w) k) := by
    intro s hs k hk
    have hCs : jx_C 3 s w n b p h := jf_k_C hs hC (by simp) (by simp)
    have hLs : jp_LN 3 n (jz_O w) s := jf_k_LN hs hL (by simp) (by simp) (by simp)
    exact jp_may_sp hW hCs hLs hk hp (jz_gr_eq hW hk).1 (by rw [hCs.2.1 k hk]; exact (jz_gr_eq hW hk).2)
  unfold jf_finds jm_finds
  simp only [et1, et2, et3, ed, edc, Option.bind_some, jx_nx]
  -- the component first
  have key : jw (jf_finds_h12 F F (nI pw, dc, nI 0, c)) (fun q => jw (jm_finds_h22 F F (dv, nI 0, t3)) (fun t' => jf_k [(0, 10)] [] [(0, 4), (0, 5)] [] c q.2 ∧ jm_k [38] [13, 34, 36, 37] [12, 14, 15, 35] t t' ∧ ((q.1 = nI 0 ∧ q.2.1 0 10 = nI 0 ∧ t'.1 38 = nI 0) ∨ (q.1 = nI 1 ∧ ∃ m, jx_P n (jz_MR w n pw (jz_gr w)) (jz_dr w n hm) q.2 t' m)))) := by
    refine jf_far_sp (A := jz_dr w n hm) (R := jz_MR w n pw (jz_gr w)) (w := w) (b := b) (p := p) (h := h) hF hn hC.1.1 hA hR hdc (fun s hs k hk => hmay s (hs.wd (by simp) (by simp) (by simp) (by simp)) k hk) ?_
    intro c' hc' hfc
    have hC' : jx_C 3 c' w n b p h := jf_k_C hc' hC (by simp) (by simp)
    have key2 : jw (jm_finds_h22 F F (dv, nI 0, t3)) (fun t' => ∃ q, jf_tail F (nI pw) c' = some q ∧ jf_k [(0, 10)] [] [(0, 4), (0, 5)] [] c q.2 ∧ jm_k [38] [13, 34, 36, 37] [12, 14, 15, 35] t t' ∧ ((q.1 = nI 0 ∧ q.2.1 0 10 = nI 0 ∧ t'.1 38 = nI 0) ∨ (q.1 = nI 1 ∧ ∃ m, jx_P n (jz_MR w n pw (jz_gr w)) (jz_dr w n hm) q.2 t' m))) := by
      refine jm_far_sp (A := jz_dr w n hm) (R := jz_MR w n pw (jz_gr w)) (by omega) hn (by rw [hw3]; exact h0) hA hR hd hm3 ?_
      intro t' ht' hft
      have ht0 : t'.2.1 1 0 = nI n := by rw [ht'.2.1 1 (by decide), hw3]; exact h0
      have hkc0 : jf_k [(0, 10)] [] [(0, 4), (0, 5)] [] c c' := hc'.wd (by simp) (by simp) (by simp) (by simp)
      have hkt0 : jm_k [38] [13, 34, 36, 37] [12, 14, 15, 35] t t' := hk13.trans (ht'.wd (by simp) (by decide) (by simp))
      have hnone : jf_tail F (nI pw) c' = some (nI 0, jf_setI c' 0 10 (nI 0)) → jm_tail F t' = some (jm_setI t' 38 (nI 0)) → jw (jm_tail F t') (fun t' => ∃ q, jf_tail F (nI pw) c' = some q ∧ jf_k [(0, 10)] [] [(0, 4), (0, 5)] [] c q.2 ∧ jm_k [38] [13, 34, 36, 37] [12, 14, 15, 35] t t' ∧ ((q.1 = nI 0 ∧ q.2.1 0 10 = nI 0 ∧ t'.1 38 = nI 0) ∨ (q.1 = nI 1 ∧ ∃ m, jx_P n (jz_MR w n pw (jz_gr w)) (jz_dr w n hm) q.2 t' m))) := by
        intro e1 e2
        rw [e2]
        exact jw_some ⟨_, e1, hkc0.setI (by simp), hkt0.setI (by simp), Or.inl ⟨rfl, rfl, rfl⟩⟩
      have ec13 : c'.1 3 13 = nI n := hC'.1.1
      by_cases hn0 : n = 0
      · refine hnone ?_ ?_
        · unfold jf_tail
          have : (jf_setI c' 0 10 (nI 0)).1 3 13 = 0 := by show c'.1 3 13 = 0; rw [ec13, hn0]; rfl
          exact if_pos this
        · unfold jm_tail
          simp only [jx_nx, jm_orders_eq, Option.bind_some]
          have : (jm_setI t' 38 (nI 0)).2.1 1 0 = 0 := by show t'.2.1 1 0 = 0; rw [ht0, hn0]; rfl
          exact if_pos this
      · have hne1 : ¬ (jf_setI c' 0 10 (nI 0)).1 3 13 = 0 := by show ¬ c'.1 3 13 = 0; rw [ec13]; exact nI_ne0 (by omega) (by omega)
        have hne2 : ¬ (jm_setI t' 38 (nI 0)).2.1 1 0 = 0 := by show ¬ t'.2.1 1 0 = 0; rw [ht0]; exact nI_ne0 (by omega) (by omega)
        rcases hfc 0 (by omega) with ⟨d, hdn, e1, hfd⟩ | ⟨e1, hno⟩
        · have e2 : t'.2.1 37 0 = nI d := (jz_far_iff hft hn (by omega) hdn (jn_m1' (by omega))).mpr hfd
          have hcp : jf_tail F (nI pw) c' = jx_loop (fun r (a : Int32 × Int32 × jf_S) => jf_finds_L225 F r a.1 a.2.1 a.2.2) F (nI pw, nI 0, jf_setI (jf_setA (jf_setI c' 0 10 (nI 0)) 0 5 (upd (c'.2.2.1 0 5) 0 (nI 0))) 0 10 (nI 1)) := by
            unfold jf_tail
            simp only [jx_nx]
            rw [if_neg hne1, jx_ga_nI (by decide) (by decide), jx_ga_nI (by decide) (by decide)]
            have : ¬ (jf_setI c' 0 10 (nI 0)).2.2.1 0 4 0 = nI 40 := by show ¬ c'.2.2.1 0 4 0 = nI 40; rw [e1, nI_eq (by omega) (by decide)]; omega
            rw [if_neg this]
            rfl
          have htp : jm_tail F t' = jx_loop (fun r (a : Int32 × jm_S) => jm_finds_L200 F r a.1 a.2) F (nI 0, jm_setI (jm_setA (jm_setI t' 38 (nI 0)) 36 (upd (t'.2.1 36) 0 (nI 0))) 38 (nI 1)) := by
            unfold jm_tail
            simp only [jx_nx, jm_orders_eq, Option.bind_some]
            rw [if_neg hne2, jx_ga_nI (by decide) (by decide), jx_ga_nI (by decide) (by decide)]
            have : 0 ≤ (jm_setI t' 38 (nI 0)).2.1 37 0 := by show 0 ≤ t'.2.1 37 0; rw [e2]; exact nI_pos' (by omega)
            rw [if_pos this]
            rfl
          have hpath := jx_path (F := F) (pw := pw) (c := c') (t := t') (R := jz_MR w n pw (jz_gr w)) (A := jz_dr w n hm) (by omega) hn hA hR (fun s hs k hk => hmay s (hkc0.trans hs) k hk) (fun k hk => by rw [ht'.2.2 35 (by simp)]; exact hm3 k hk) hfc hft d F F 0 1 (jf_setI (jf_setA (jf_setI c' 0 10 (nI 0)) 0 5 (upd (c'.2.2.1 0 5) 0 (nI 0))) 0 10 (nI 1)) (jm_setI (jm_setA (jm_setI t' 38 (nI 0)) 36 (upd (t'.2.1 36) 0 (nI 0))) 38 (nI 1)) (by omega) (by omega) (by omega) hfd (((jf_k.rf.setI (by simp)).setA (by simp)).setI (by simp)) (((jm_k.rf.setI (by simp)).setA (by simp)).setI (by simp)) (by omega) (by omega) rfl rfl ⟨fun _ => 0, fun i hi => by
              have e : i = 0 := by omega
              subst e
              exact ⟨by show 0 < n; omega, rfl, rfl⟩, fun i hi => by omega, rfl, rfl⟩
          obtain ⟨q, t'', eq1, eq2, hq1, hq2, hq3, hq4⟩ := hpath
          rw [htp, eq2]
          refine jw_some ⟨q, hcp.trans eq1, ?_, ?_, Or.inr ⟨hq1, hq4⟩⟩
          · exact hkc0.trans (hq2.wd (by simp) (by simp) (by simp) (by simp))
          · exact hkt0.trans (hq3.wd (by simp) (by decide) (by simp))
        · have e2 : t'.2.1 37 0 = (-1 : Int32) := by
            rcases hft 0 (by omega) with ⟨d, _, _, hfd⟩ | ⟨e2, _⟩
            · exact absurd hfd.1 (hno d)
            · exact e2
          refine hnone ?_ ?_
          · unfold jf_tail
            simp only [jx_nx]
            rw [if_neg hne1, jx_ga_nI (by decide) (by decide)]
            exact if_pos e1
          · unfold jm_tail
            simp only [jx_nx, jm_orders_eq, Option.bind_some]
            rw [if_neg hne2, jx_ga_nI (by decide) (by decide)]
            have : ¬ 0 ≤ (jm_setI t' 38 (nI 0)).2.1 37 0 := by show ¬ 0 ≤ t'.2.1 37 0; rw [e2]; decide
            exact if_neg this
    obtain ⟨t', et', q, eq, hq⟩ := key2
    rw [eq]
    exact jw_some ⟨t', et', hq⟩
  obtain ⟨q, eq, t', et', hq⟩ := key
  exact ⟨q, t', eq, et', hq⟩
/-! what the breaker can bend -/
def jz_ba1 (w : Nat → Int32) (pw : Nat) (v : Int32) : Prop := nI 1000 ≤ v ∧ (w (392 + 2 * pw) >>> ((v - nI 1000) &&& 31)) &&& nI 1 = nI 1
theorem jm_bendsAtom_eq {F pw : Nat} {v : Int32} {t : jm_S} (hp : pw < 6) (hv : jz_at v) : jm_bendsAtom F (nI pw) v t = some (jt (jz_ba1 (t.2.1 1) pw v), t) := by
  obtain ⟨a, ha, e⟩ := hv
  subst e
  unfold jm_bendsAtom
  simp only [jm_bendsCell_eq hp, Option.bind_some]
  rcases Nat.lt_or_ge a 1000 with h1 | h1
  · rw [if_pos (nI_lt h1 (by decide)), jt_n]
    exact fun z => nI_ge h1 (by decide) z.1
  · rw [if_neg (nI_nlt h1 (by omega))]
    by_cases hb : (t.2.1 1 (392 + 2 * pw) >>> ((nI a - nI 1000) &&& 31)) &&& nI 1 = nI 1
    · rw [jt_if hb, jt_p (p := jz_ba1 _ _ _) ⟨nI_le h1 (by omega), hb⟩]
    · rw [jt_ifn hb, jt_n]
      exact fun z => hb z.2
theorem jf_can_eq {F pw : Nat} {v : Int32} {c : jf_S} {x : Int32} (hp : pw < 6) (hv : jz_at v) (hx : c.2.2.1 3 3 pw = x) {w : Nat → Int32} (hw : x = w (392 + 2 * pw)) : jf_can F (nI pw) (jo_ac v) c = some (jt (jz_ba1 w pw v), c) := by
  obtain ⟨a, ha, e⟩ := hv
  subst e
  unfold jf_can
  rcases Nat.lt_or_ge a 1000 with h1 | h1
  · rw [if_pos (jo_ac_lt h1), jt_n]
    exact fun z => nI_ge h1 (by decide) z.1
  · rw [jo_ac_ge h1 ha, if_neg (jn_m1 (by omega)), jx_ga_nI hp (by decide), hx, hw]
    by_cases hb : (w (392 + 2 * pw) >>> (nI (a - 1000) &&& 31)) &&& nI 1 = nI 1
    · rw [if_pos hb, jt_p (p := jz_ba1 _ _ _) ⟨nI_le h1 (by omega), by rw [pk_sub h1]; exact hb⟩]
    · rw [if_neg hb, jt_n]
      exact fun z => hb (by have := z.2; rw [pk_sub h1] at this; exact this)
theorem jn_sub_m1 (x : Int32) : x - (-1 : Int32) = x + nI 1 := by
  rw [Int32.sub_eq_add_neg]
  rfl
theorem jn_sub_1 (x : Int32) : x - nI 1 = x + (-1 : Int32) := by
  rw [Int32.sub_eq_add_neg]
  rfl
theorem jn_add_0 (x : Int32) : x + nI 0 = x := Int32.add_zero x
noncomputable def jz_by (fi so : Prop) (s : Int32) : Int32 := if s = nI 61 then @ite _ so (Classical.propDecidable _) (nI 0) (nI 1) else @ite _ so (Classical.propDecidable _) (@ite _ (s = nI 60 ↔ fi) (Classical.propDecidable _) (-1 : Int32) (nI 1)) (nI 0)
theorem jo12_needs_1 {F : Nat} {r : jo_R} {so : Prop} {x : Int32} {c : jf_S} (hs : r 8 = nI 60 ∨ r 8 = nI 62 ∨ r 8 = nI 61) : jo12_needs F r (nI 0) (jt so) x c = some (x + jz_by True so (r 8), c) := by
  unfold jo12_needs jo12_needs_b27 jz_by
  by_cases hso : so
  · rw [jt_p hso]
    simp only [if_pos hso, if_neg (show ¬ nI 1 = (0 : Int32) by decide), if_pos (show nI 0 = (0 : Int32) by decide)]
    rcases hs with h | h | h
    · rw [h, if_pos rfl, if_neg (by decide), if_neg (by decide), if_pos (by simp)]
    · rw [h, if_neg (by decide), if_pos rfl, if_neg (by decide), if_neg (by decide), if_neg (by simp; decide)]
    · rw [h, if_neg (by decide), if_neg (by decide), if_pos rfl, if_pos rfl, jn_add_0]
  · rw [jt_n hso]
    simp only [if_neg hso, if_pos (show nI 0 = (0 : Int32) by decide)]
    rcases hs with h | h | h
    · rw [h, if_pos rfl, if_neg (by decide), if_neg (by decide), jn_add_0]
    · rw [h, if_neg (by decide), if_pos rfl, if_neg (by decide), if_neg (by decide), jn_add_0]
    · rw [h, if_neg (by decide), if_neg (by decide), if_pos rfl, if_pos rfl]
theorem jo12_needs_2 {F : Nat} {r : jo_R} {so : Prop} {x : Int32} {c : jf_S} (hs : r 8 = nI 60 ∨ r 8 = nI 62 ∨ r 8 = nI 61) : jo12_needs F r (nI 1) (jt so) x c = some (x + jz_by False so (r 8), c) := by
  unfold jo12_needs jo12_needs_b27 jz_by
  by_cases hso : so
  · rw [jt_p hso]
    simp only [if_pos hso, if_neg (show ¬ nI 1 = (0 : Int32) by decide)]
    rcases hs with h | h | h
    · rw [h, if_pos rfl, if_neg (by decide), if_neg (by decide), if_neg (by simp), jn_sub_m1]
    · rw [h, if_neg (by decide), if_pos rfl, if_neg (by decide), if_neg (by decide), if_pos (by simp; decide), jn_sub_1]
    · rw [h, if_neg (by decide), if_neg (by decide), if_pos rfl, if_pos rfl, jn_add_0]
  · rw [jt_n hso]
    simp only [if_neg hso, if_pos (show nI 0 = (0 : Int32) by decide)]
    rcases hs with h | h | h
    · rw [h, if_pos rfl, if_neg (by decide), if_neg (by decide), jn_add_0]
    · rw [h, if_neg (by decide), if_pos rfl, if_neg (by decide), if_neg (by decide), jn_add_0]
    · rw [h, if_neg (by decide), if_neg (by decide), if_pos rfl, if_pos rfl]
theorem jm_b44_1 {F k q : Nat} {t : jm_S} {so : Prop} (hk : k < 40) (a7 : jz_at (jz_O (t.2.1 1) k 7)) (hs : jz_O (t.2.1 1) k 8 = nI 60 ∨ jz_O (t.2.1 1) k 8 = nI 62 ∨ jz_O (t.2.1 1) k 8 = nI 61) (hq : q < 16) (e6 : jz_O (t.2.1 1) k 6 = nI (q + 1000)) : jm_bendsIf_b44 F (nI k) (jt so) (nI 1) t = some (jm_setA t 16 (upd (t.2.1 16) q (jz_v (t.2.1 16) (jz_O (t.2.1 1) k 7) + jz_by True so (jz_O (t.2.1 1) k 8)))) := by
  unfold jm_bendsIf_b44
  rw [if_neg (by decide)]
  unfold jm_bendsIf_b59
  simp only [jm_of_eq hk (show 7 < 9 by decide) (show 7 ≠ 2 by decide), jm_of_eq hk (show 8 < 9 by decide) (show 8 ≠ 2 by decide), jm_valueOf_eq a7, Option.bind_some, jx_nx]
  have hb : ∀ y : Int32, jm_bendsIf_b125 F (nI k) (nI 1) (jz_v (t.2.1 16) (jz_O (t.2.1 1) k 7)) y t = some (jm_setA t 16 (upd (t.2.1 16) q (jz_v (t.2.1 16) (jz_O (t.2.1 1) k 7) + y))) := by
    intro y
    unfold jm_bendsIf_b125
    rw [if_neg (by decide)]
    unfold jm_bendsIf_b145
    simp only [jm_of_eq hk (show 6 < 9 by decide) (show 6 ≠ 2 by decide), Option.bind_some, e6, pk_sub (show 1000 ≤ q + 1000 by omega), Nat.add_sub_cancel, jx_ga_nI hq (show 16 < 2 ^ 31 by decide), jx_nx]
  unfold jm_bendsIf_b115
  simp only [hb]
  unfold jz_by
  by_cases hso : so
  · rw [jt_p hso]
    simp only [if_pos hso, if_neg (show ¬ nI 1 = (0 : Int32) by decide)]
    rcases hs with h | h | h
    · rw [h, if_neg (by decide), if_pos rfl, if_pos trivial, if_neg (by decide), if_pos (by simp)]
    · rw [h, if_neg (by decide), if_neg (by decide), if_neg (by decide), if_neg (by decide), if_neg (by simp; decide)]
    · rw [h, if_pos rfl, if_pos rfl]
  · rw [jt_n hso]
    simp only [if_neg hso, if_pos (show nI 0 = (0 : Int32) by decide)]
    rcases hs with h | h | h
    · rw [h, if_neg (by decide), if_neg (by decide)]
    · rw [h, if_neg (by decide), if_neg (by decide)]
    · rw [h, if_pos rfl, if_pos rfl]
theorem jm_b44_2 {F k q : Nat} {t : jm_S} {so : Prop} (hk : k < 40) (a6 : jz_at (jz_O (t.2.1 1) k 6)) (hs : jz_O (t.2.1 1) k 8 = nI 60 ∨ jz_O (t.2.1 1) k 8 = nI 62 ∨ jz_O (t.2.1 1) k 8 = nI 61) (hq : q < 16) (e7 : jz_O (t.2.1 1) k 7 = nI (q + 1000)) : jm_bendsIf_b44 F (nI k) (jt so) (nI 0) t = some (jm_setA t 16 (upd (t.2.1 16) q (jz_v (t.2.1 16) (jz_O (t.2.1 1) k 6) + jz_by False so (jz_O (t.2.1 1) k 8)))) := by
  unfold jm_bendsIf_b44
  rw [if_pos (by decide)]
  unfold jm_bendsIf_b59
  simp only [jm_of_eq hk (show 6 < 9 by decide) (show 6 ≠ 2 by decide), jm_of_eq hk (show 8 < 9 by decide) (show 8 ≠ 2 by decide), jm_valueOf_eq a6, Option.bind_some, jx_nx]
  have hb : ∀ y : Int32, jm_bendsIf_b125 F (nI k) (nI 0) (jz_v (t.2.1 16) (jz_O (t.2.1 1) k 6)) y t = some (jm_setA t 16 (upd (t.2.1 16) q (jz_v (t.2.1 16) (jz_O (t.2.1 1) k 6) + y))) := by
    intro y
    unfold jm_bendsIf_b125
    rw [if_pos (by decide)]
    unfold jm_bendsIf_b145
    simp only [jm_of_eq hk (show 7 < 9 by decide) (show 7 ≠ 2 by decide), Option.bind_some, e7, pk_sub (show 1000 ≤ q + 1000 by omega), Nat.add_sub_cancel, jx_ga_nI hq (show 16 < 2 ^ 31 by decide), jx_nx]
  unfold jm_bendsIf_b115
  simp only [hb]
  unfold jz_by
  by_cases hso : so
  · rw [jt_p hso]
    simp only [if_pos hso, if_neg (show ¬ nI 1 = (0 : Int32) by decide)]
    rcases hs with h | h | h
    · rw [h, if_neg (by decide), if_pos rfl, if_neg (by decide), if_neg (by decide), if_neg (by simp)]
    · rw [h, if_neg (by decide), if_neg (by decide), if_pos trivial, if_neg (by decide), if_pos (by simp; decide)]
    · rw [h, if_pos rfl, if_pos rfl]
  · rw [jt_n hso]
    simp only [if_neg hso, if_pos (show nI 0 = (0 : Int32) by decide)]
    rcases hs with h | h | h
    · rw [h, if_neg (by decide), if_neg (by decide)]
    · rw [h, if_neg (by decide), if_neg (by decide)]
    · rw [h, if_pos rfl, if_pos rfl]
/-- an if is bent, or not, alike -/
theorem jx_bif {F n b p h k pw d sd : Nat} {c : jf_S} {t : jm_S} {w : Nat → Int32} {r : jo_R} {so : Prop} (hW : jz_W w n b p h) (hC : jx_C 3 c w n b p h) (hw : t.2.1 1 = w) (hp : pw < p) (hk : k < n) (hr : ∀ c, c < 9 → c ≠ 2 → r c = jz_O w k c) (e0 : jz_O w k 0 = nI 3) (hM : jx_M0 c t d sd) :
    ∃ c1 t1, jf_bends_b53 F (nI pw) r (jt so) c = some c1 ∧ jm_bendsIf F (nI pw) (nI k) (jt so) t = some t1 ∧ jx_M0 c1 t1 d sd ∧ jx_f5 c c1 ∧ c1.1 = c.1 ∧ t1.1 = t.1 ∧ jm_k [] [16] [] t t1 := by
  have hV : jz_V w n := hW.v
  obtain ⟨hn, h0, ho⟩ := id hV
  have hp6 : pw < 6 := by have := hW.1.2.2.1; omega
  have hk4 : k < 40 := by omega
  obtain ⟨⟨hd, h8, h21, h12, h25⟩, m1, m2, m3, m4⟩ := id hM
  have a6 := (ho k hk).a6 (Or.inr (Or.inl e0))
  obtain ⟨a7, hs8⟩ := (ho k hk).a7 e0
  have hP := (hC.2.2.2.2.1 pw hp).1
  have v6 : jz_v (t.2.1 16) (jz_O w k 6) = jz_v (c.2.2.1 5 1) (jz_O w k 6) := (jz_v_cong m1 a6).symm
  have v7 : jz_v (t.2.1 16) (jz_O w k 7) = jz_v (c.2.2.1 5 1) (jz_O w k 7) := (jz_v_cong m1 a7).symm
  have hso : jz_so2 (t.2.1 16) (jz_O w k 6) (jz_O w k 7) (jz_O w k 8) ↔ jz_so2 (c.2.2.1 5 1) (jz_O w k 6) (jz_O w k 7) (jz_O w k 8) := (jz_so2_cong m1 a6 a7).symm
  -- both write the same
  have hwr : ∀ (q : Nat) (v : Int32), jx_M0 (jf_setA c 5 1 (upd (c.2.2.1 5 1) q v)) (jm_setA t 16 (upd (t.2.1 16) q v)) d sd := fun q v => ⟨⟨hd, h8, h21, h12, h25⟩, jx_upd_cong m1, m2, m3, m4⟩
  have hend : ∀ (q : Nat) (v : Int32) (oc : Option jf_S) (ot : Option jm_S), oc = some (jf_setA c 5 1 (upd (c.2.2.1 5 1) q v)) → ot = some (jm_setA t 16 (upd (t.2.1 16) q v)) → ∃ c1 t1, oc = some c1 ∧ ot = some t1 ∧ jx_M0 c1 t1 d sd ∧ jx_f5 c c1 ∧ c1.1 = c.1 ∧ t1.1 = t.1 ∧ jm_k [] [16] [] t t1 := fun q v oc ot e1 e2 => ⟨_, _, e1, e2, hwr q v, jx_f5.rf.A, rfl, rfl, jm_k.rf.setA (by simp)⟩
  unfold jf_bends_b53 jm_bendsIf
  simp only [hr 6 (by decide) (by decide), hr 7 (by decide) (by decide), hr 8 (by decide) (by decide), ja_of_eq a6, ja_of_eq a7, Option.bind_some, jx_nx, jf_ifHolds_eq, jf_can_eq hp6 a6 rfl hP, jf_can_eq hp6 a7 rfl hP, jm_of_eq hk4 (show 6 < 9 by decide) (show 6 ≠ 2 by decide), jm_of_eq hk4 (show 7 < 9 by decide) (show 7 ≠ 2 by decide), hw, jm_bendsAtom_eq hp6 a6, jm_bendsAtom_eq hp6 a7, jm_isSo_eq hn hk (by rw [hw]; exact ho k hk) (by rw [hw]; exact e0)]
  have hsame : (jt (jz_so2 (c.2.2.1 5 1) (jz_O w k 6) (jz_O w k 7) (jz_O w k 8)) = jt so) ↔ (jt (jz_so2 (t.2.1 16) (jz_O w k 6) (jz_O w k 7) (jz_O w k 8)) = jt so) := by rw [jt_congr hso]
  have hsc : (jz_O w k 8 = nI 60 ∧ ¬ jz_v (c.2.2.1 5 1) (jz_O w k 7) ≤ jz_v (c.2.2.1 5 1) (jz_O w k 6) ∨ ¬ jz_O w k 8 = nI 60 ∧ jz_O w k 8 = nI 62 ∧ ¬ jz_v (c.2.2.1 5 1) (jz_O w k 6) ≤ jz_v (c.2.2.1 5 1) (jz_O w k 7) ∨ ¬ jz_O w k 8 = nI 60 ∧ ¬ jz_O w k 8 = nI 62 ∧ jz_v (c.2.2.1 5 1) (jz_O w k 6) = jz_v (c.2.2.1 5 1) (jz_O w k 7)) ↔ jz_so2 (c.2.2.1 5 1) (jz_O w k 6) (jz_O w k 7) (jz_O w k 8) := Iff.rfl
  rw [jt_congr hsc]
  by_cases he : jt (jz_so2 (c.2.2.1 5 1) (jz_O w k 6) (jz_O w k 7) (jz_O w k 8)) = jt so
  · rw [if_pos he, if_pos (hsame.mp he)]
    exact ⟨c, t, rfl, rfl, hM, jx_f5.rf, rfl, rfl, jm_k.rf⟩
  · rw [if_neg he, if_neg (fun z => he (hsame.mpr z))]
    obtain ⟨x6, hx6, e6⟩ := id a6
    obtain ⟨x7, hx7, e7⟩ := id a7
    have hcell : ∀ x, x < 1016 → jz_ba1 w pw (nI x) → 1000 ≤ x ∧ x - 1000 < 16 := fun x hx z => by
      rcases Nat.lt_or_ge x 1000 with g | g
      · exact absurd z.1 (nI_ge g (by decide))
      · omega
    have hcell' : ∀ v, jz_at v → jz_ba1 w pw v → ∃ q, q < 16 ∧ v = nI (q + 1000) ∧ jo_ac v = nI q := fun v hv z => by
      obtain ⟨x, hx, ex⟩ := hv
      rw [ex] at z
      obtain ⟨g1, g2⟩ := hcell x hx z
      exact ⟨x - 1000, g2, by rw [ex, Nat.sub_add_cancel g1], by rw [ex]; exact jo_ac_ge g1 hx⟩
    have r8 : r 8 = jz_O w k 8 := hr 8 (by decide) (by decide)
    by_cases hf : jz_ba1 w pw (jz_O w k 6)
    · obtain ⟨q, hq, eq6, eac⟩ := hcell' _ a6 hf
      have hb := jm_b44_1 (F := F) (t := t) (so := so) (q := q) hk4 (by rw [hw]; exact a7) (by rw [hw]; exact hs8) hq (by rw [hw]; exact eq6)
      rw [hw, v7] at hb
      have hn1 := jo12_needs_1 (F := F) (r := r) (so := so) (x := jz_v (c.2.2.1 5 1) (jz_O w k 7)) (c := c) (by rw [r8]; exact hs8)
      rw [r8] at hn1
      simp only [jt_if hf, eac, hn1, Option.bind_some, jx_ga_nI hq (show 16 < 2 ^ 31 by decide)]
      rw [jt_p hf, hb]
      exact hend q _ _ _ rfl rfl
    · simp only [jt_ifn hf]
      by_cases hf7 : jz_ba1 w pw (jz_O w k 7)
      · obtain ⟨q, hq, eq7, eac⟩ := hcell' _ a7 hf7
        have hb := jm_b44_2 (F := F) (t := t) (so := so) (q := q) hk4 (by rw [hw]; exact a6) (by rw [hw]; exact hs8) hq (by rw [hw]; exact eq7)
        rw [hw, v6] at hb
        have hn2 := jo12_needs_2 (F := F) (r := r) (so := so) (x := jz_v (c.2.2.1 5 1) (jz_O w k 6)) (c := c) (by rw [r8]; exact hs8)
        rw [r8] at hn2
        simp only [jt_if hf7, eac, hn2, Option.bind_some, jx_ga_nI hq (show 16 < 2 ^ 31 by decide)]
        rw [jt_n hf, hb]
        exact hend q _ _ _ rfl rfl
      · simp only [jt_ifn hf7]
        exact ⟨c, t, rfl, rfl, hM, jx_f5.rf, rfl, rfl, jm_k.rf⟩
