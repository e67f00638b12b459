/-! runs: what one order does, both sides -/
set_option maxRecDepth 100000
/-- the program o of the component says what the world w says -/
def jx_C (o : Nat) (c : jf_S) (w : Nat → Int32) (n b p h : Nat) : Prop := jp_R o c w n ∧ (∀ k, k < n → c.2.2.1 o 1 k = w (8 + 9 * k + 2)) ∧ (∀ g, g < 4 → c.2.2.1 o 2 g = w (4 + g)) ∧ (c.1 o 14 = nI p ∧ c.1 o 15 = nI h ∧ c.1 o 16 = nI b) ∧ (∀ i, i < p → c.2.2.1 o 3 i = w (392 + 2 * i) ∧ c.2.2.1 o 8 i = w (392 + 2 * i + 1)) ∧ (∀ i, i < h → c.2.2.1 o 4 i = w (404 + i)) ∧ (∀ i, i < b → c.2.2.1 o 5 i = w (368 + 3 * i) ∧ c.2.2.1 o 6 i = w (368 + 3 * i + 1) ∧ c.2.2.1 o 7 i = w (368 + 3 * i + 2))
theorem jx_C.k {o : Nat} {c c' : jf_S} {w : Nat → Int32} {n b p h : Nat} (hC : jx_C o c w n b p h) (h1 : ∀ k, 13 ≤ k → k ≤ 16 → c'.1 o k = c.1 o k) (h2 : ∀ k, 1 ≤ k → k ≤ 8 → c'.2.2.1 o k = c.2.2.1 o k) (h3 : c'.2.2.2.2 o = c.2.2.2.2 o) : jx_C o c' w n b p h := by
  obtain ⟨a1, a2, a3, a4, a5, a6, a7⟩ := hC
  refine ⟨⟨(h1 13 (by decide) (by decide)).trans a1.1, ?_⟩, ?_, ?_, ?_, ?_, ?_, ?_⟩
  · rw [h3]; exact a1.2
  · rw [h2 1 (by decide) (by decide)]; exact a2
  · rw [h2 2 (by decide) (by decide)]; exact a3
  · rw [h1 14 (by decide) (by decide), h1 15 (by decide) (by decide), h1 16 (by decide) (by decide)]; exact a4
  · rw [h2 3 (by decide) (by decide), h2 8 (by decide) (by decide)]; exact a5
  · rw [h2 4 (by decide) (by decide)]; exact a6
  · rw [h2 5 (by decide) (by decide), h2 6 (by decide) (by decide), h2 7 (by decide) (by decide)]; exact a7
/-- outside the machine nothing changed -/
def jx_f5 (c c' : jf_S) : Prop := (∀ p, p ≠ 5 → c'.1 p = c.1 p) ∧ c'.2.1 = c.2.1 ∧ (∀ p, p ≠ 5 → c'.2.2.1 p = c.2.2.1 p) ∧ c'.2.2.2 = c.2.2.2
theorem jx_f5.rf {c : jf_S} : jx_f5 c c := ⟨fun _ _ => rfl, rfl, fun _ _ => rfl, rfl⟩
theorem jx_f5.trans {c c1 c2 : jf_S} (h : jx_f5 c c1) (k : jx_f5 c1 c2) : jx_f5 c c2 := ⟨fun p hp => (k.1 p hp).trans (h.1 p hp), k.2.1.trans h.2.1, fun p hp => (k.2.2.1 p hp).trans (h.2.2.1 p hp), k.2.2.2.trans h.2.2.2⟩
theorem jx_f5.I {c c1 : jf_S} {k : Nat} {v : Int32} (h : jx_f5 c c1) : jx_f5 c (jf_setI c1 5 k v) := ⟨fun p hp => (funext fun j => if_neg hp).trans (h.1 p hp), h.2.1, h.2.2.1, h.2.2.2⟩
theorem jx_f5.A {c c1 : jf_S} {k : Nat} {f : Nat → Int32} (h : jx_f5 c c1) : jx_f5 c (jf_setA c1 5 k f) := ⟨h.1, h.2.1, fun p hp => (funext fun j => if_neg hp).trans (h.2.2.1 p hp), h.2.2.2⟩
theorem jx_f5.C {o : Nat} {c c1 : jf_S} {w : Nat → Int32} {n b p h : Nat} (hf : jx_f5 c c1) (ho : o ≠ 5) (hC : jx_C o c w n b p h) : jx_C o c1 w n b p h := hC.k (fun k _ _ => by rw [hf.1 o ho]) (fun k _ _ => by rw [hf.2.2.1 o ho]) (by rw [hf.2.2.2])
theorem jx_f5.LN {o n : Nat} {O : Nat → Nat → Int32} {c c1 : jf_S} (hf : jx_f5 c c1) (ho : o ≠ 5) (hL : jp_LN o n O c) : jp_LN o n O c1 := hL.k (fun k => by rw [hf.2.2.2]) (by rw [hf.1 o ho]) (by rw [hf.2.1])
/-- the two machines agree on cells, row and words -/
def jx_M0 (c : jf_S) (t : jm_S) (d sd : Nat) : Prop := (d ≤ 8 ∧ c.1 5 8 = nI d ∧ t.1 21 = nI d ∧ c.1 5 12 = nI sd ∧ t.1 25 = nI sd) ∧ (∀ i, i < 16 → c.2.2.1 5 1 i = t.2.1 16 i) ∧ (∀ i, i < 16 → c.2.2.1 5 2 i = t.2.1 17 i) ∧ (∀ i, i < d → c.2.2.1 5 3 i = t.2.1 18 i ∧ c.2.2.1 5 5 i = t.2.1 19 i ∧ c.2.2.1 5 4 i = t.2.1 20 i) ∧ (∀ i, i < sd → c.2.2.1 5 7 i = t.2.1 23 i)
theorem jx_M0.kc {c c' : jf_S} {t : jm_S} {d sd : Nat} (h : jx_M0 c t d sd) (h1 : c'.1 5 8 = c.1 5 8) (h2 : c'.1 5 12 = c.1 5 12) (h3 : c'.2.2.1 = c.2.2.1) : jx_M0 c' t d sd := by
  unfold jx_M0
  rw [h1, h2, h3]
  exact h
theorem jx_M0.kt {c : jf_S} {t t' : jm_S} {d sd : Nat} (h : jx_M0 c t d sd) (h1 : t'.1 21 = t.1 21) (h2 : t'.1 25 = t.1 25) (h3 : ∀ i, 16 ≤ i → i ≤ 23 → i ≠ 22 → t'.2.1 i = t.2.1 i) : jx_M0 c t' d sd := by
  unfold jx_M0
  rw [h1, h2, h3 16 (by decide) (by decide) (by decide), h3 17 (by decide) (by decide) (by decide), h3 18 (by decide) (by decide) (by decide), h3 19 (by decide) (by decide) (by decide), h3 20 (by decide) (by decide) (by decide), h3 23 (by decide) (by decide) (by decide)]
  exact h
def jx_cW (c : jf_S) (i : Nat) (v : Int32) : jf_S := jf_setA (jf_setA c 5 1 (upd (c.2.2.1 5 1) i v)) 5 2 (upd (c.2.2.1 5 2) i (-1 : Int32))
def jx_tW (t : jm_S) (i : Nat) (v : Int32) : jm_S := jm_setA (jm_setA t 16 (upd (t.2.1 16) i v)) 17 (upd (t.2.1 17) i (-1 : Int32))
theorem jk_writes_eq {F i : Nat} {c : jf_S} {v : Int32} (hi : i < 16) : jk_writes F (nI i) v c = some (jx_cW c i v) := by
  unfold jk_writes
  simp only [jx_ga_nI hi (show 16 < 2 ^ 31 by decide), jx_nx]
  rfl
theorem jm_writes_eq {F i : Nat} {t : jm_S} {v : Int32} (hi : i < 16) : jm_writes F (nI i) v t = some (jx_tW t i v) := by
  unfold jm_writes
  simp only [jx_ga_nI hi (show 16 < 2 ^ 31 by decide), jx_nx]
  rfl
theorem jx_upd_cong {f g : Nat → Int32} {m i : Nat} {v : Int32} (h : ∀ j, j < m → f j = g j) : ∀ j, j < m → upd f i v j = upd g i v j := by
  intro j hj
  by_cases e : j = i
  · rw [e, pk_us, pk_us]
  · rw [pk_un e, pk_un e]; exact h j hj
theorem jx_upd_snoc {f g : Nat → Int32} {m : Nat} {v : Int32} (h : ∀ j, j < m → f j = g j) : ∀ j, j < m + 1 → upd f m v j = upd g m v j := by
  intro j hj
  by_cases e : j = m
  · rw [e, pk_us, pk_us]
  · rw [pk_un e, pk_un e]; exact h j (by omega)
theorem jx_M0_W {c : jf_S} {t : jm_S} {d sd i : Nat} {v : Int32} (h : jx_M0 c t d sd) : jx_M0 (jx_cW c i v) (jx_tW t i v) d sd := by
  obtain ⟨h1, h2, h3, h4, h5⟩ := h
  refine ⟨h1, ?_, ?_, h4, h5⟩
  · exact jx_upd_cong h2
  · exact jx_upd_cong h3
def jx_cP (c : jf_S) (d : Nat) (v : Int32) : jf_S := jf_setI (jf_setA (jf_setA (jf_setA c 5 3 (upd (c.2.2.1 5 3) d v)) 5 4 (upd (c.2.2.1 5 4) d v)) 5 5 (upd (c.2.2.1 5 5) d (-1 : Int32))) 5 8 (nI (d + 1))
def jx_tP (t : jm_S) (d : Nat) (v : Int32) : jm_S := jm_setI (jm_setA (jm_setA (jm_setA t 18 (upd (t.2.1 18) d v)) 19 (upd (t.2.1 19) d (-1 : Int32))) 20 (upd (t.2.1 20) d v)) 21 (nI (d + 1))
theorem jk_puts_eq {F d : Nat} {c : jf_S} {v : Int32} (hd : d < 8) (h8 : c.1 5 8 = nI d) : jk_puts F v c = some (jx_cP c d v) := by
  unfold jk_puts
  simp only [jx_nx, jf_A0, h8, jx_ga_nI hd (show 8 < 2 ^ 31 by decide), nI_add]
  rfl
theorem jm_keepsPlace_eq {F d k : Nat} {t : jm_S} (hd : d < 8) (h8 : t.1 21 = nI d) : jm_keepsPlace F (nI k) t = some (jx_tP t d (nI (k + 1))) := by
  unfold jm_keepsPlace
  simp only [jx_nx, jm_A0, h8, jx_ga_nI hd (show 8 < 2 ^ 31 by decide), nI_add]
  rfl
theorem jx_M0_P {c : jf_S} {t : jm_S} {d sd : Nat} {v : Int32} (h : jx_M0 c t d sd) (hd : d < 8) : jx_M0 (jx_cP c d v) (jx_tP t d v) (d + 1) sd := by
  obtain ⟨⟨h0, h1, h1', h1s, h1s'⟩, h2, h3, h4, h5⟩ := h
  refine ⟨⟨by omega, rfl, rfl, h1s, h1s'⟩, h2, h3, ?_, h5⟩
  intro i hi
  have a := jx_upd_snoc (v := v) (fun j hj => (h4 j hj).1) i hi
  have b := jx_upd_snoc (v := (-1 : Int32)) (fun j hj => (h4 j hj).2.1) i hi
  have e := jx_upd_snoc (v := v) (fun j hj => (h4 j hj).2.2) i hi
  exact ⟨a, b, e⟩
theorem jx_M0_pop {c : jf_S} {t : jm_S} {d sd : Nat} (h : jx_M0 c t (d + 1) sd) : jx_M0 (jf_setI c 5 8 (nI d)) (jm_setI t 21 (nI d)) d sd := by
  obtain ⟨⟨h0, h1, h1', h1s, h1s'⟩, h2, h3, h4, h5⟩ := h
  exact ⟨⟨by omega, rfl, rfl, h1s, h1s'⟩, h2, h3, fun i hi => h4 i (by omega), h5⟩
def jx_cS (c : jf_S) (sd : Nat) (v : Int32) : jf_S := jf_setI (jf_setA c 5 7 (upd (c.2.2.1 5 7) sd v)) 5 12 (nI (sd + 1))
def jx_tS (t : jm_S) (sd : Nat) (v : Int32) : jm_S := jm_setI (jm_setA t 23 (upd (t.2.1 23) sd v)) 25 (nI (sd + 1))
theorem jk_says_eq {F sd : Nat} {c : jf_S} {v : Int32} (hd : sd < 300) (h8 : c.1 5 12 = nI sd) : jk_says F v c = some (jx_cS c sd v) := by
  unfold jk_says
  simp only [jx_nx, jf_A0, h8, jx_ga_nI hd (show 300 < 2 ^ 31 by decide), nI_add]
  rfl
theorem jx_M0_S {c : jf_S} {t : jm_S} {d sd : Nat} {v : Int32} (h : jx_M0 c t d sd) : jx_M0 (jx_cS c sd v) (jx_tS t sd v) d (sd + 1) := by
  obtain ⟨⟨h0, h1, h1', h1s, h1s'⟩, h2, h3, h4, h5⟩ := h
  exact ⟨⟨h0, h1, h1', rfl, rfl⟩, h2, h3, h4, jx_upd_snoc h5⟩
theorem jk_trap_eq {F : Nat} {c : jf_S} : jk_trap F c = some (c.1 5 9, jf_setI c 5 14 (nI 3)) := rfl
/-! the twin's tests -/
def jx_Tr (w f : Nat → Int32) (k d : Nat) : Prop := (jz_O w k 0 = nI 0 ∧ jz_tr (jz_sum f (jz_O w k 6) (jz_O w k 7) (jz_O w k 8))) ∨ (jz_pu (jz_O w) k ∧ d = 8) ∨ (jz_O w k 0 = nI 7 ∧ d = 0)
theorem jm_isTrapped_eq {F n k d : Nat} {t : jm_S} (hV : jz_V (t.2.1 1) n) (hk : k < n) (hd : d ≤ 8) (h21 : t.1 21 = nI d) : jm_isTrapped F (nI k) t = some (jt (jx_Tr (t.2.1 1) (t.2.1 16) k d), t) := by
  obtain ⟨hn, h0, ho⟩ := id hV
  have hk4 : k < 40 := by omega
  obtain ⟨wd, hwd, e0⟩ := (ho k hk).wd
  unfold jm_isTrapped
  simp only [jm_noOrder_eq hn h0, Option.bind_some, jt_0]
  rw [if_pos (fun z => z ⟨k, hk, rfl⟩)]
  simp only [jm_wordOf_eq hk4, Option.bind_some, jx_nx]
  by_cases w0 : jz_O (t.2.1 1) k 0 = 0
  · rw [if_pos w0]
    have hno : ¬ ((jz_pu (jz_O (t.2.1 1)) k ∧ d = 8) ∨ (jz_O (t.2.1 1) k 0 = nI 7 ∧ d = 0)) := by
      rintro (⟨z | z, _⟩ | ⟨z, _⟩) <;> rw [w0] at z <;> revert z <;> decide
    simp only [jm_sumOf_eq hn hk (ho k hk) w0, Option.bind_some, jc_pos, jc_ge0]
    generalize hs : jz_sum (t.2.1 16) (jz_O (t.2.1 1) k 6) (jz_O (t.2.1 1) k 7) (jz_O (t.2.1 1) k 8) = v
    by_cases h1 : (99999 : Int64) < v
    · rw [if_pos h1, jt_p (p := jx_Tr _ _ k d) (Or.inl ⟨w0, by rw [hs]; exact Or.inl h1⟩)]
    · rw [if_neg h1]
      by_cases h2 : v < (-99999 : Int64)
      · rw [if_neg (fun z => z h2), jt_p (p := jx_Tr _ _ k d) (Or.inl ⟨w0, by rw [hs]; exact Or.inr h2⟩)]
      · rw [if_pos h2, jt_n]
        rintro (⟨-, z⟩ | z)
        · rw [hs] at z
          rcases z with z | z
          · exact h1 z
          · exact h2 z
        · exact hno z
  · rw [if_neg w0]
    have hn0 : ¬ (jz_O (t.2.1 1) k 0 = nI 0 ∧ jz_tr (jz_sum (t.2.1 16) (jz_O (t.2.1 1) k 6) (jz_O (t.2.1 1) k 7) (jz_O (t.2.1 1) k 8))) := fun z => w0 z.1
    unfold jm_isTrapped_b67
    simp only [jm_isCall_eq hk4, Option.bind_some, h21, nI_eq (b := 8) (show d < 2 ^ 31 by omega) (by decide), jn_eq0 (show d < 2 ^ 31 by omega)]
    by_cases hpu : jz_pu (jz_O (t.2.1 1)) k
    · have h7 : ¬ jz_O (t.2.1 1) k 0 = nI 7 := by rintro z; rcases hpu with h | h <;> rw [z] at h <;> revert h <;> decide
      rw [jt_if hpu, if_neg h7]
      by_cases h8 : d = 8
      · rw [if_pos h8, jt_p (p := jx_Tr _ _ k d) (Or.inr (Or.inl ⟨hpu, h8⟩))]
      · rw [if_neg h8, jt_n]
        rintro (z | z | z)
        · exact hn0 z
        · exact h8 z.2
        · exact h7 z.1
    · rw [jt_ifn hpu]
      by_cases h7 : jz_O (t.2.1 1) k 0 = nI 7
      · rw [if_pos h7]
        by_cases hd0 : d = 0
        · rw [if_pos hd0, jt_p (p := jx_Tr _ _ k d) (Or.inr (Or.inr ⟨h7, hd0⟩))]
        · rw [if_neg hd0, jt_n]
          rintro (z | z | z)
          · exact hn0 z
          · exact hpu z.1
          · exact hd0 z.2
      · rw [if_neg h7, jt_n]
        rintro (z | z | z)
        · exact hn0 z
        · exact hpu z.1
        · exact h7 z.1
/-- where a jump would land -/
def jx_to (w f g : Nat → Int32) (k d : Nat) : Int32 := if jz_O w k 0 = nI 7 then g (d - 1) else f (jz_cl (jz_O w) k)
theorem jm_landingOf_eq {F n k d : Nat} {t : jm_S} (hV : jz_V (t.2.1 1) n) (hk : k < n) (hd : d ≤ 8) (h21 : t.1 21 = nI d) (h7 : jz_O (t.2.1 1) k 0 = nI 7 → 0 < d) : jm_landingOf F (nI k) t = some (jx_to (t.2.1 1) (t.2.1 16) (t.2.1 18) k d, t) := by
  obtain ⟨hn, h0, ho⟩ := id hV
  have hk4 : k < 40 := by omega
  obtain ⟨c, hc, e5⟩ := (ho k hk).ce
  have hcl : jz_cl (jz_O (t.2.1 1)) k = c := by unfold jz_cl; rw [e5, nI_clamp (by omega)]
  unfold jm_landingOf jx_to
  simp only [jm_wordOf_eq hk4, Option.bind_some, jm_of_eq hk4 (show 5 < 9 by decide) (show 5 ≠ 2 by decide), e5, jx_ga_nI hc (show 16 < 2 ^ 31 by decide), h21, hcl]
  by_cases w7 : jz_O (t.2.1 1) k 0 = nI 7
  · have hd0 := h7 w7
    rw [if_pos w7, if_pos w7, pk_sub hd0, jx_ga_nI (by omega) (by decide)]
  · rw [if_neg w7, if_neg w7]
def jx_ok (n : Nat) (O : Nat → Nat → Int32) (k g : Nat) (sec to : Int32) : Prop := g = 0 ∨ (O k 0 = nI 7 ∧ g = 3 ∧ to = sec) ∨ (¬ g = 0 ∧ ¬ (O k 0 = nI 7 ∧ g = 3) ∧ ∃ j : Nat, j < n ∧ to = nI j ∧ jz_lt n O k g j)
theorem jm_isGuarded_eq {F n k d g : Nat} {t : jm_S} (hV : jz_V (t.2.1 1) n) (hk : k < n) (hd : d ≤ 8) (h21 : t.1 21 = nI d) (h7 : jz_O (t.2.1 1) k 0 = nI 7 → 0 < d) (hg : g < 4) (h2 : t.2.1 1 (8 + 9 * k + 2) = nI g) (hl : js (t.2.2 33 k) (jz_lt n (jz_O (t.2.1 1)) k g)) : jm_isGuarded F (nI k) t = some (jt (¬ jx_ok n (jz_O (t.2.1 1)) k g (t.2.1 20 (d - 1)) (jx_to (t.2.1 1) (t.2.1 16) (t.2.1 18) k d)), t) := by
  obtain ⟨hn, h0, ho⟩ := id hV
  have hk4 : k < 40 := by omega
  unfold jm_isGuarded jm_isGuarded_b55
  simp only [jm_landingOf_eq hV hk hd h21 h7, Option.bind_some, jx_nx, jm_of_2 hk4, h2, jn_eq0 (show g < 2 ^ 31 by omega), nI_eq (b := 3) (show g < 2 ^ 31 by omega) (by decide), jm_wordOf_eq hk4, jm_in_eq, jx_ga_nI hk4 (show 40 < 2 ^ 31 by decide), jt_0, h21]
  generalize jx_to (t.2.1 1) (t.2.1 16) (t.2.1 18) k d = to
  have hin : ∀ x : Int32, (¬ x < nI 0 ∧ ¬ nI 39 < x) ↔ ∃ j : Nat, j < 40 ∧ x = nI j := fun x => jn_inI (n := 40) (by decide)
  have hb55 : ¬ g = 0 → ¬ (jz_O (t.2.1 1) k 0 = nI 7 ∧ g = 3) → (if ¬ (¬ to < nI 0 ∧ ¬ nI 39 < to) then some (nI 1, t) else (jm_has (t.2.2 33 k) to).bind fun q4 => if q4 = 0 then some (nI 1, t) else some (nI 0, t)) = some (jt (¬ jx_ok n (jz_O (t.2.1 1)) k g (t.2.1 20 (d - 1)) to), t) := by
    intro g0 gn
    by_cases hto : ∃ j : Nat, j < 40 ∧ to = nI j
    · obtain ⟨j, hj, e⟩ := hto
      rw [if_neg (fun z => z ((hin to).mpr ⟨j, hj, e⟩)), e, jm_has_eq (show j < 64 by omega), Option.bind_some]
      by_cases hb : jb (t.2.2 33 k) j = true
      · have hlt := (hl j (by omega)).mp hb
        rw [if_neg (fun z => (jt_0.mp z) hb), jt_n (fun z => z (Or.inr (Or.inr ⟨g0, gn, j, jz_lt_lt hlt, rfl, hlt⟩)))]
      · rw [if_pos (jt_0.mpr hb), jt_p]
        rintro (z | z | ⟨-, -, j', hj', e', z⟩)
        · exact g0 z
        · exact gn ⟨z.1, z.2.1⟩
        · rw [nI_eq (by omega) (by omega)] at e'
          subst e'
          exact hb ((hl j (by omega)).mpr z)
    · rw [if_pos (fun z => hto ((hin to).mp z)), jt_p]
      rintro (z | z | ⟨-, -, j', hj', e', z⟩)
      · exact g0 z
      · exact gn ⟨z.1, z.2.1⟩
      · exact hto ⟨j', by omega, e'⟩
  by_cases g0 : g = 0
  · rw [if_pos g0, jt_n (fun z => z (Or.inl g0))]
  · rw [if_neg g0]
    by_cases g3 : g = 3
    · rw [if_pos g3]
      by_cases w7 : jz_O (t.2.1 1) k 0 = nI 7
      · have hd0 := h7 w7
        rw [if_pos w7, pk_sub hd0, jx_ga_nI (by omega) (by decide)]
        by_cases e : to = t.2.1 20 (d - 1)
        · rw [if_pos e, jt_n (fun z => z (Or.inr (Or.inl ⟨w7, g3, e⟩)))]
        · rw [if_neg e, jt_p]
          rintro (z | z | z)
          · exact g0 z
          · exact e z.2.2
          · exact z.2.1 ⟨w7, g3⟩
      · rw [if_neg w7]
        exact hb55 g0 (fun z => w7 z.1)
    · rw [if_neg g3]
      exact hb55 g0 (fun z => g3 z.2)
