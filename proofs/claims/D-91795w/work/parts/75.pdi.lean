/-! doors; how far a door is -/
set_option maxRecDepth 100000
def jz_dr (w : Nat → Int32) (n hm j : Nat) : Prop := j < n ∧ jz_O w j 0 = nI 8 ∧ (nI 1000 ≤ jz_O w j 6 ∨ jz_O w j 6 = w (404 + hm))
theorem jp_doors_sp {F n b p h hm : Nat} {c : jf_S} {w : Nat → Int32} (hF : 1000 ≤ F) (hW : jz_W w n b p h) (hC : jx_C 3 c w n b p h) (hh : hm < h) : ∃ v, jp_doors F 3 (nI hm) c = some (v, c) ∧ js v (jz_dr w n hm) := by
  have hV : jz_V w n := hW.v
  obtain ⟨hn, h0, ho⟩ := id hV
  obtain ⟨hR, -, -, -, -, hH, -⟩ := id hC
  have hh8 : hm < 8 := by have := hW.1.2.2.2; omega
  have key : jw (jp_doors F 3 (nI hm) c) (fun q => q.2 = c ∧ js q.1 (jz_dr w n hm)) := by
    unfold jp_doors
    simp only [jx_nx]
    unfold jp_doors_h5
    refine jw_for (σ := Int64) n (fun i x => (nI hm, x, nI i, c)) (fun i x => js x (fun j => j < i ∧ jz_dr w n hm j)) ?_ ?_ F 0 (lN 0) (by omega) (by omega) (js_congr js_0 (fun j _ => ⟨False.elim, fun z => by omega⟩))
    · intro r x hx
      unfold jp_doors_L5
      simp only [hR.1]
      rw [if_pos (nI_le (by omega) (by omega))]
      exact jw_some ⟨rfl, js_congr hx (fun j _ => ⟨fun z => z.2, fun z => ⟨z.1, z⟩⟩)⟩
    · intro r i x hi hx ih
      obtain ⟨rc, hrc, hrc2⟩ := hR.2 i hi
      have hw : ∃ wd : Nat, wd < 10 ∧ rc 0 = nI wd := by rw [hrc2 0 (by decide) (by decide)]; exact (ho i hi).wd
      have hskip : ¬ jz_dr w n hm i → js x (fun j => j < i + 1 ∧ jz_dr w n hm j) := fun hno => js_congr hx (fun j _ => ⟨fun z => ⟨by omega, z.2⟩, fun z => ⟨by
        rcases Nat.lt_or_ge j i with g | g
        · exact g
        · have e : j = i := by omega
          subst e; exact absurd z.2 hno, z.2⟩⟩)
      have hadd : jz_dr w n hm i → js (x ||| lN 1 <<< ((nI i).toInt64 &&& 63)) (fun j => j < i + 1 ∧ jz_dr w n hm j) := fun hyes => js_congr (js_or hx (js_sh (show i < 64 by omega))) (fun j _ => ⟨fun z => by
        rcases z with z | z
        · exact ⟨by omega, z.2⟩
        · subst z; exact ⟨by omega, hyes⟩, fun z => by
        by_cases e : j = i
        · exact Or.inr e
        · exact Or.inl ⟨by omega, z.2⟩⟩)
      unfold jp_doors_L5 jp_doors_b59
      simp only [hR.1, jx_nx, nI_add]
      rw [if_neg (nI_ge (by omega) (by omega))]
      simp only [jx_ga_nI (show i < 40 by omega) (show 40 < 2 ^ 31 by decide), hrc, Option.bind_some, jv_word_eq hw, hrc2 0 (by decide) (by decide)]
      by_cases w8 : jz_O w i 0 = nI 8
      · obtain ⟨a, ha, e6⟩ := (ho i hi).a6 (Or.inr (Or.inr w8))
        obtain ⟨hv, hv1, ehv⟩ := hW.2.2.2.2.2.2.2.2 hm hh
        rw [if_pos w8]
        unfold jx_ge
        rw [if_pos w8]
        simp only [jx_ga_nI hh8 (show 8 < 2 ^ 31 by decide), hH hm hh]
        unfold jo17_mayDo
        simp only [hrc2 6 (by decide) (by decide), e6, jf_bit_eq (show i < 40 by omega), Option.bind_some]
        rcases Nat.lt_or_ge a 1000 with h1 | h1
        · rw [if_pos (jo_ac_lt h1), jo_an_lt h1]
          by_cases e : nI a = w (404 + hm)
          · rw [if_pos e, Option.bind_some]
            show jw (if nI 1 = (0 : Int32) then _ else _) _
            rw [if_neg (by decide)]
            exact ih _ (hadd ⟨hi, w8, Or.inr (by rw [e6]; exact e)⟩)
          · rw [if_neg e, Option.bind_some]
            show jw (if nI 0 = (0 : Int32) then _ else _) _
            rw [if_pos (by decide)]
            refine ih _ (hskip ?_)
            rintro ⟨-, -, z | z⟩
            · rw [e6] at z; exact nI_ge h1 (by decide) z
            · rw [e6] at z; exact e z
        · rw [jo_ac_ge h1 ha, if_neg (jn_m1 (by omega)), Option.bind_some]
          show jw (if nI 1 = (0 : Int32) then _ else _) _
          rw [if_neg (by decide)]
          exact ih _ (hadd ⟨hi, w8, Or.inl (by rw [e6]; exact nI_le h1 (by omega))⟩)
      · rw [if_neg w8]
        exact ih _ (hskip (fun z => w8 z.2.1))
  obtain ⟨⟨v, s⟩, e, rfl, h⟩ := key
  exact ⟨v, e, h⟩
theorem jm_doorsOf_sp {F n hm : Nat} {t : jm_S} {w : Nat → Int32} (hF : 1000 ≤ F) (hV : jz_V w n) (hw : t.2.1 1 = w) (hh : hm < 8) : ∃ v, jm_doorsOf F (nI hm) t = some (v, t) ∧ js v (jz_dr w n hm) := by
  obtain ⟨hn, h0, ho⟩ := id hV
  have key : jw (jm_doorsOf F (nI hm) t) (fun q => q.2 = t ∧ js q.1 (jz_dr w n hm)) := by
    unfold jm_doorsOf
    simp only [jx_nx]
    unfold jm_doorsOf_h5
    refine jw_for (σ := Int64) n (fun i x => (nI hm, x, nI i, t)) (fun i x => js x (fun j => j < i ∧ jz_dr w n hm j)) ?_ ?_ F 0 (lN 0) (by omega) (by omega) (js_congr js_0 (fun j _ => ⟨False.elim, fun z => by omega⟩))
    · intro r x hx
      unfold jm_doorsOf_L5
      simp only [jm_orders_eq, Option.bind_some, hw, h0]
      rw [if_pos (nI_le (by omega) (by omega))]
      exact jw_some ⟨rfl, js_congr hx (fun j _ => ⟨fun z => z.2, fun z => ⟨z.1, z⟩⟩)⟩
    · intro r i x hi hx ih
      have hi4 : i < 40 := by omega
      have hskip : ¬ jz_dr w n hm i → js x (fun j => j < i + 1 ∧ jz_dr w n hm j) := fun hno => js_congr hx (fun j _ => ⟨fun z => ⟨by omega, z.2⟩, fun z => ⟨by
        rcases Nat.lt_or_ge j i with g | g
        · exact g
        · have e : j = i := by omega
          subst e; exact absurd z.2 hno, z.2⟩⟩)
      have hadd : jz_dr w n hm i → js (x ||| lN 1 <<< ((nI i).toInt64 &&& 63)) (fun j => j < i + 1 ∧ jz_dr w n hm j) := fun hyes => js_congr (js_or hx (js_sh (show i < 64 by omega))) (fun j _ => ⟨fun z => by
        rcases z with z | z
        · exact ⟨by omega, z.2⟩
        · subst z; exact ⟨by omega, hyes⟩, fun z => by
        by_cases e : j = i
        · exact Or.inr e
        · exact Or.inl ⟨by omega, z.2⟩⟩)
      unfold jm_doorsOf_L5 jm_doorsOf_b60 jm_doorsOf_b67
      simp only [jm_orders_eq, Option.bind_some, hw, h0, jx_nx, nI_add]
      rw [if_neg (nI_ge (by omega) (by omega))]
      simp only [jm_wordOf_eq hi4, Option.bind_some, hw, jm_of_eq hi4 (show 6 < 9 by decide) (show 6 ≠ 2 by decide), jx_ga_nI (show 404 + hm < 412 by omega) (show 412 < 2 ^ 31 by decide)]
      by_cases w8 : jz_O w i 0 = nI 8
      · rw [if_pos w8]
        by_cases g1 : nI 1000 ≤ jz_O w i 6
        · rw [if_pos g1]
          exact ih _ (hadd ⟨hi, w8, Or.inl g1⟩)
        · rw [if_neg g1]
          by_cases g2 : jz_O w i 6 = w (404 + hm)
          · rw [if_pos g2]
            exact ih _ (hadd ⟨hi, w8, Or.inr g2⟩)
          · rw [if_neg g2]
            exact ih _ (hskip (fun z => by rcases z.2.2 with z | z; exact g1 z; exact g2 z))
      · rw [if_neg w8]
        exact ih _ (hskip (fun z => w8 z.2.1))
  obtain ⟨⟨v, s⟩, e, rfl, h⟩ := key
  exact ⟨v, e, h⟩
/-! distance -/
def jz_D (n : Nat) (R : Nat → Nat → Prop) (A : Nat → Prop) : Nat → Nat → Prop
  | 0, k => A k
  | d + 1, k => jz_D n R A d k ∨ ∃ j, j < n ∧ R k j ∧ jz_D n R A d j
def jz_fd (n : Nat) (R : Nat → Nat → Prop) (A : Nat → Prop) (k d : Nat) : Prop := jz_D n R A d k ∧ ∀ e, e < d → ¬ jz_D n R A e k
theorem jz_D_up {n : Nat} {R : Nat → Nat → Prop} {A : Nat → Prop} {d k : Nat} (h : jz_D n R A d k) : ∀ e, jz_D n R A (d + e) k
  | 0 => h
  | e + 1 => Or.inl (jz_D_up h e)
theorem jz_D_le {n : Nat} {R : Nat → Nat → Prop} {A : Nat → Prop} {d e k : Nat} (h : jz_D n R A d k) (hd : d ≤ e) : jz_D n R A e k := by
  have h2 := jz_D_up h (e - d)
  rw [show d + (e - d) = e by omega] at h2
  exact h2
theorem jz_fd_uniq {n : Nat} {R : Nat → Nat → Prop} {A : Nat → Prop} {k d e : Nat} (h : jz_fd n R A k d) (h2 : jz_fd n R A k e) : d = e := by
  rcases Nat.lt_trichotomy d e with g | g | g
  · exact absurd h.1 (h2.2 d g)
  · exact g
  · exact absurd h2.1 (h.2 e g)
theorem jz_D_fd {n : Nat} {R : Nat → Nat → Prop} {A : Nat → Prop} {k : Nat} : ∀ d, jz_D n R A d k → ∃ e, e ≤ d ∧ jz_fd n R A k e := by
  intro d
  induction d with
  | zero => intro h; exact ⟨0, Nat.le_refl _, h, fun e he => by omega⟩
  | succ d ih =>
    intro h
    by_cases h2 : jz_D n R A d k
    · obtain ⟨e, he, h3⟩ := ih h2
      exact ⟨e, by omega, h3⟩
    · exact ⟨d + 1, Nat.le_refl _, h, fun e he z => h2 (jz_D_le z (by omega))⟩
/-- at rest by n - 1 -/
theorem jz_D_rest {n : Nat} {R : Nat → Nat → Prop} {A : Nat → Prop} (hA : ∀ k, A k → k < n) {k d : Nat} (hk : k < n) (h : jz_D n R A d k) : jz_D n R A (n - 1) k := by
  -- some door there is
  have hne : ∃ a, a < n ∧ A a := by
    have : ∀ d k, jz_D n R A d k → ∃ a, A a := by
      intro d
      induction d with
      | zero => intro k h; exact ⟨k, h⟩
      | succ d ih =>
        intro k h
        rcases h with h | ⟨j, -, -, h⟩
        · exact ih k h
        · exact ih j h
    obtain ⟨a, ha⟩ := this d k h
    exact ⟨a, hA a ha, ha⟩
  obtain ⟨a, ha, hAa⟩ := hne
  have hc : 0 < jcn (fun k => jd (jz_D n R A 0 k)) n := jcn_pos ha (jd_t.mpr hAa)
  have hr := jcn_rest (f := fun d k => jd (jz_D n R A d k)) (N := n) (fun d k _ hk => jd_t.mpr (Or.inl (jd_t.mp hk))) (fun d h1 k hk => by
    have h2 : ∀ c, c < n → (jz_D n R A d c ↔ jz_D n R A (d + 1) c) := fun c hc => jd_e.mp (h1 c hc)
    refine jd_e.mpr ⟨Or.inl, ?_⟩
    rintro (z | ⟨j, hj, z1, z2⟩)
    · exact z
    · exact Or.inr ⟨j, hj, z1, (h2 j hj).mpr z2⟩)
  have hst : ∀ e, n - 1 ≤ e → ∀ k, k < n → (jz_D n R A (e + 1) k → jz_D n R A e k) := fun e he k hk z => (jd_e.mp (hr e (by omega) k hk)).mpr z
  have hdown : ∀ e k, k < n → jz_D n R A (n - 1 + e) k → jz_D n R A (n - 1) k := by
    intro e
    induction e with
    | zero => intro k _ z; exact z
    | succ e ih => intro k hk z; exact ih k hk (hst _ (by omega) k hk z)
  have h3 := jz_D_up h (n - 1)
  rw [Nat.add_comm] at h3
  exact hdown d k hk h3
theorem jz_fd_lt {n : Nat} {R : Nat → Nat → Prop} {A : Nat → Prop} (hA : ∀ k, A k → k < n) {k d : Nat} (hk : k < n) (h : jz_fd n R A k d) : d < n := by
  rcases Nat.lt_or_ge d n with g | g
  · exact g
  · exact absurd (jz_D_rest hA hk h.1) (h.2 (n - 1) (by omega))
/-- one step nearer -/
theorem jz_fd_step {n : Nat} {R : Nat → Nat → Prop} {A : Nat → Prop} {k d : Nat} (h : jz_fd n R A k (d + 1)) : ∃ j, j < n ∧ R k j ∧ jz_fd n R A j d := by
  rcases h.1 with z | ⟨j, hj, hr, z⟩
  · exact absurd z (h.2 d (by omega))
  · refine ⟨j, hj, hr, z, fun e he z2 => h.2 (e + 1) (by omega) (Or.inr ⟨j, hj, hr, z2⟩)⟩
/-- the numbers of an array tell the distances; u stands for none -/
def jz_far (n : Nat) (R : Nat → Nat → Prop) (A : Nat → Prop) (u : Int32) (f : Nat → Int32) : Prop := ∀ k, k < n → (∃ d, d < n ∧ f k = nI d ∧ jz_fd n R A k d) ∨ (f k = u ∧ ∀ d, ¬ jz_D n R A d k)
