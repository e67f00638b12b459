/-! the row of orders to a door: both sides -/
set_option maxRecDepth 100000
theorem jz_far_iff {n : Nat} {R : Nat → Nat → Prop} {A : Nat → Prop} {u : Int32} {f : Nat → Int32} (h : jz_far n R A u f) (hn : n ≤ 40) {k e : Nat} (hk : k < n) (he : e < n) (hu : u ≠ nI e) : f k = nI e ↔ jz_fd n R A k e := by
  rcases h k hk with ⟨d, hd, ed, hfd⟩ | ⟨eu, hno⟩
  · rw [ed, nI_eq (by omega) (by omega)]
    constructor
    · intro z; rw [z] at hfd; exact hfd
    · intro z; exact jz_fd_uniq hfd z
  · constructor
    · intro z; rw [eu] at z; exact absurd z hu
    · intro z; exact absurd z.1 (hno e)
/-- a row of m orders, the last of A, each a step nearer: both sides -/
def jx_P (n : Nat) (R : Nat → Nat → Prop) (A : Nat → Prop) (c : jf_S) (t : jm_S) (m : Nat) : Prop := 1 ≤ m ∧ m ≤ 40 ∧ c.1 0 10 = nI m ∧ t.1 38 = nI m ∧ ∃ pa : Nat → Nat, (∀ i, i < m → pa i < n ∧ c.2.2.1 0 5 i = nI (pa i) ∧ t.2.1 36 i = nI (pa i)) ∧ (∀ i, i + 1 < m → R (pa i) (pa (i + 1))) ∧ pa 0 = 0 ∧ A (pa (m - 1))
theorem jx_path {F n pw : Nat} {c : jf_S} {t : jm_S} {R : Nat → Nat → Prop} {A : Nat → Prop} (hF : 1000 ≤ F) (hn : n ≤ 40) (hA : ∀ k, A k → k < n) (hR : ∀ x y, R x y → y < n)
    (hmay : ∀ (s : jf_S), jf_k [(0, 10)] [] [(0, 4), (0, 5)] [] c s → ∀ k, k < n → ∃ u, jp_may F 3 3 1 (nI k) (nI pw) s = some (u, s) ∧ js u (R k)) (hm : ∀ k, k < n → js (t.2.2 35 k) (R k)) (hfc : jz_far n R A (nI 40) (c.2.2.1 0 4)) (hft : jz_far n R A (-1 : Int32) (t.2.1 37)) :
    ∀ (d m1 m2 a m : Nat) (c1 : jf_S) (t1 : jm_S), d < m1 → d < m2 → a < n → jz_fd n R A a d → jf_k [(0, 10)] [] [(0, 5)] [] c c1 → jm_k [38] [36] [] t t1 → m + d ≤ n → 1 ≤ m → c1.1 0 10 = nI m → t1.1 38 = nI m →
      (∃ pa : Nat → Nat, (∀ i, i < m → pa i < n ∧ c1.2.2.1 0 5 i = nI (pa i) ∧ t1.2.1 36 i = nI (pa i)) ∧ (∀ i, i + 1 < m → R (pa i) (pa (i + 1))) ∧ pa 0 = 0 ∧ pa (m - 1) = a) →
      jw2 (jx_loop (fun r (a : Int32 × Int32 × jf_S) => jf_finds_L225 F r a.1 a.2.1 a.2.2) m1 (nI pw, nI a, c1)) (jx_loop (fun r (a : Int32 × jm_S) => jm_finds_L200 F r a.1 a.2) m2 (nI a, t1)) (fun q t' => q.1 = nI 1 ∧ jf_k [(0, 10)] [] [(0, 5)] [] c q.2 ∧ jm_k [38] [36] [] t t' ∧ ∃ m, jx_P n R A q.2 t' m) := by
  intro d
  induction d with
  | zero =>
    intro m1 m2 a m c1 t1 h1 h2 ha hd hc1 ht1 hmd hm1 hcm htm hpa
    cases m1 with
    | zero => omega
    | succ m1 =>
      cases m2 with
      | zero => omega
      | succ m2 =>
        have efc : c1.2.2.1 0 4 = c.2.2.1 0 4 := hc1.2.2.1 0 4 (by simp)
        have eft : t1.2.1 37 = t.2.1 37 := ht1.2.1 37 (by simp)
        have f0c : c.2.2.1 0 4 a = nI 0 := (jz_far_iff hfc hn ha (by omega) (by decide)).mpr hd
        have f0t : t.2.1 37 a = nI 0 := (jz_far_iff hft hn ha (by omega) (by decide)).mpr hd
        rw [jx_loop_s, jx_loop_s]
        show jw2 (jf_finds_L225 F _ (nI pw) (nI a) c1) (jm_finds_L200 F _ (nI a) t1) _
        unfold jf_finds_L225 jm_finds_L200
        rw [jx_ga_nI (by omega) (by decide), jx_ga_nI (by omega) (by decide), efc, eft, f0c, f0t]
        have hle : nI 0 ≤ (0 : Int32) := by decide
        simp only [if_pos hle]
        refine jw2_some ?_
        obtain ⟨pa, p1, p2, p3, p4⟩ := hpa
        exact ⟨rfl, hc1, ht1, m, hm1, by omega, hcm, htm, pa, p1, p2, p3, by rw [p4]; exact hd.1⟩
  | succ d ih =>
    intro m1 m2 a m c1 t1 h1 h2 ha hd hc1 ht1 hmd hm1 hcm htm hpa
    cases m1 with
    | zero => omega
    | succ m1 =>
      cases m2 with
      | zero => omega
      | succ m2 =>
        have hdn : d + 1 < n := jz_fd_lt hA ha hd
        have efc : c1.2.2.1 0 4 = c.2.2.1 0 4 := hc1.2.2.1 0 4 (by simp)
        have eft : t1.2.1 37 = t.2.1 37 := ht1.2.1 37 (by simp)
        have e35 : t1.2.2 35 = t.2.2 35 := ht1.2.2 35 (by simp)
        have fac : c.2.2.1 0 4 a = nI (d + 1) := (jz_far_iff hfc hn ha hdn (fun z => by rw [nI_eq (by decide) (by omega)] at z; omega)).mpr hd
        have fat : t.2.1 37 a = nI (d + 1) := (jz_far_iff hft hn ha hdn (jn_m1' (by omega))).mpr hd
        obtain ⟨u, eu, hu⟩ := hmay c1 (hc1.wd (by simp) (by simp) (by simp) (by simp)) a ha
        have ha4 : a < 40 := by omega
        rw [jx_loop_s, jx_loop_s]
        show jw2 (jf_finds_L225 F _ (nI pw) (nI a) c1) (jm_finds_L200 F _ (nI a) t1) _
        unfold jf_finds_L225 jm_finds_L200
        rw [jx_ga_nI ha4 (by decide), jx_ga_nI ha4 (by decide), efc, eft, fac, fat]
        have hle : ¬ nI (d + 1) ≤ (0 : Int32) := nI_nle (by omega) (by omega)
        simp only [if_neg hle, eu, Option.bind_some, jx_nx]
        obtain ⟨j0, hj0, hr0, hd0⟩ := jz_fd_step hd
        unfold jf_finds_h257 jm_finds_h213
        refine jw2_for (σ := Unit) j0 (fun x _ => (nI pw, nI a, u, nI x, c1)) (fun x _ => (nI a, nI x, t1)) (fun _ _ => True) ?_ ?_ F F 0 () (by omega) (by omega) (by omega) trivial
        all_goals
          have hfound : ∀ x, x < n → R a x → jz_fd n R A x d → jw2 (jx_loop (fun r (a : Int32 × Int32 × jf_S) => jf_finds_L225 F r a.1 a.2.1 a.2.2) m1 (nI pw, nI x, jf_setI (jf_setA c1 0 5 (upd (c1.2.2.1 0 5) m (nI x))) 0 10 (nI (m + 1)))) (jx_loop (fun r (a : Int32 × jm_S) => jm_finds_L200 F r a.1 a.2) m2 (nI x, jm_setI (jm_setA t1 36 (upd (t1.2.1 36) m (nI x))) 38 (nI (m + 1)))) (fun q t' => q.1 = nI 1 ∧ jf_k [(0, 10)] [] [(0, 5)] [] c q.2 ∧ jm_k [38] [36] [] t t' ∧ ∃ m, jx_P n R A q.2 t' m) := by
            intro x hx hrx hdx
            refine ih m1 m2 x (m + 1) _ _ (by omega) (by omega) hx hdx ((hc1.setA (by simp)).setI (by simp)) ((ht1.setA (by simp)).setI (by simp)) (by omega) (by omega) rfl rfl ?_
            obtain ⟨pa, p1, p2, p3, p4⟩ := hpa
            refine ⟨fun i => if i = m then x else pa i, ?_, ?_, ?_, ?_⟩
            · intro i hi
              show (if i = m then x else pa i) < n ∧ upd (c1.2.2.1 0 5) m (nI x) i = nI (if i = m then x else pa i) ∧ upd (t1.2.1 36) m (nI x) i = nI (if i = m then x else pa i)
              by_cases e : i = m
              · rw [e, if_pos rfl, pk_us, pk_us]; exact ⟨hx, rfl, rfl⟩
              · rw [if_neg e, pk_un e, pk_un e]; exact p1 i (by omega)
            · intro i hi
              show R (if i = m then x else pa i) (if i + 1 = m then x else pa (i + 1))
              rw [if_neg (show ¬ i = m by omega)]
              by_cases e : i + 1 = m
              · rw [if_pos e, show i = m - 1 by omega, p4]; exact hrx
              · rw [if_neg e]; exact p2 i (by omega)
            · show (if 0 = m then x else pa 0) = 0
              rw [if_neg (by omega)]; exact p3
            · show (if m + 1 - 1 = m then x else pa (m + 1 - 1)) = x
              rw [if_pos (by omega)]
          have htest : ∀ (r1 : Int32 × Int32 × Int64 × Int32 × jf_S → Option (Int32 × jf_S)) (r2 : Int32 × Int32 × jm_S → Option jm_S) (x : Nat), x < n → ((R a x ∧ jz_fd n R A x d) ∨ jw2 (r1 (nI pw, nI a, u, nI (x + 1), c1)) (r2 (nI a, nI (x + 1), t1)) (fun q t' => q.1 = nI 1 ∧ jf_k [(0, 10)] [] [(0, 5)] [] c q.2 ∧ jm_k [38] [36] [] t t' ∧ ∃ m, jx_P n R A q.2 t' m)) → jw2 (jf_finds_L257 F (jx_loop (fun r (a : Int32 × Int32 × jf_S) => jf_finds_L225 F r a.1 a.2.1 a.2.2) m1) r1 (nI pw) (nI a) u (nI x) c1) (jm_finds_L213 F (jx_loop (fun r (a : Int32 × jm_S) => jm_finds_L200 F r a.1 a.2) m2) r2 (nI a) (nI x) t1) (fun q t' => q.1 = nI 1 ∧ jf_k [(0, 10)] [] [(0, 5)] [] c q.2 ∧ jm_k [38] [36] [] t t' ∧ ∃ m, jx_P n R A q.2 t' m) := by
            intro r1 r2 x hx hor
            have hx4 : x < 40 := by omega
            have hm4 : m < 40 := by omega
            have hfx1 := jz_far_iff hfc hn hx (show d < n by omega) (fun z => by rw [nI_eq (by decide) (by omega)] at z; omega)
            have hfx2 := jz_far_iff hft hn hx (show d < n by omega) (jn_m1' (by omega))
            unfold jf_finds_L257 jf_finds_b288 jm_finds_L213 jm_finds_b247
            simp only [jb_hasnt (show x < 64 by omega), jx_ga_nI ha4 (show 40 < 2 ^ 31 by decide), jx_ga_nI hx4 (show 40 < 2 ^ 31 by decide), jm_has_eq (show x < 64 by omega), Option.bind_some, e35, efc, eft, fac, fat, pk_sub (show 1 ≤ d + 1 by omega), Nat.add_sub_cancel, hcm, htm, jx_ga_nI hm4 (show 40 < 2 ^ 31 by decide), jx_nx, nI_add, jf_A0, jm_A0]
            by_cases hr : R a x
            · have hb1 : ¬ jb u x = false := by rw [(hu x (by omega)).mpr hr]; decide
              have hb2 : jb (t.2.2 35 a) x = true := (hm a ha x (by omega)).mpr hr
              rw [if_neg hb1, jt_if hb2]
              by_cases hdx : jz_fd n R A x d
              · rw [if_pos (hfx1.mpr hdx), if_pos (hfx2.mpr hdx)]
                exact hfound x hx hr hdx
              · rw [if_neg (fun z => hdx (hfx1.mp z)), if_neg (fun z => hdx (hfx2.mp z))]
                rcases hor with z | z
                · exact absurd z.2 hdx
                · exact z
            · have hb1 : jb u x = false := by
                cases h : jb u x
                · rfl
                · exact absurd ((hu x (by omega)).mp h) hr
              have hb2 : ¬ jb (t.2.2 35 a) x = true := fun z => hr ((hm a ha x (by omega)).mp z)
              rw [if_pos hb1, jt_ifn hb2]
              rcases hor with z | z
              · exact absurd z.1 hr
              · exact z
        · intro r1 r2 _ _
          exact htest r1 r2 j0 hj0 (Or.inl ⟨hr0, hd0⟩)
        · intro r1 r2 x _ hx _ hih
          exact htest r1 r2 x (by omega) (Or.inr (hih () trivial))
