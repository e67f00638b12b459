/-! how far doors are, computed: both sides -/
set_option maxRecDepth 100000
noncomputable def jm_tail (F : Nat) (S : jm_S) : Option jm_S := jx_nx (jm_setI S 38 (nI 0)) fun S3 => (jm_orders F S3).bind fun q4 => if q4.1 = 0 then some q4.2 else jx_ga (nI 0) 40 fun j6 => if 0 ≤ (q4.2.2.1 37 j6) then jx_nx (nI 0) fun y8 => jx_ga (nI 0) 40 fun j9 => jx_nx (jm_setA q4.2 36 (upd (q4.2.2.1 36) j9 (nI 0))) fun S10 => jx_nx (jm_setI S10 38 (nI 1)) fun S11 => jm_finds_h200 F F (y8, S11) else some q4.2
/-- distances up to r stand -/
def jz_fr (n : Nat) (R : Nat → Nat → Prop) (A : Nat → Prop) (f : Nat → Int32) (r k : Nat) : Prop := (∃ d, d ≤ r ∧ f k = nI d ∧ jz_fd n R A k d) ∨ (f k = (-1 : Int32) ∧ ¬ jz_D n R A r k)
theorem jm_far_sp {F n : Nat} {t : jm_S} {v : Int64} {R : Nat → Nat → Prop} {A : Nat → Prop} {P : jm_S → Prop} (hF : 1000 ≤ F) (hn : n ≤ 40) (h0 : t.2.1 1 0 = nI n) (hA : ∀ k, A k → k < n) (hR : ∀ x y, R x y → y < n) (hv : js v A) (hm : ∀ k, k < n → js (t.2.2 35 k) (R k))
    (hP : ∀ t', jm_k [] [37] [] t t' → jz_far n R A (-1 : Int32) (t'.2.1 37) → jw (jm_tail F t') P) : jw (jm_finds_h22 F F (v, nI 0, t)) P := by
  unfold jm_finds_h22
  refine jw_for (σ := jm_S) n (fun i s => (v, nI i, s)) (fun i s => jm_k [] [37] [] t s ∧ ∀ k, k < i → jz_fr n R A (s.2.1 37) 0 k) ?_ ?_ F 0 t (by omega) (by omega) ⟨jm_k.rf, fun k h => by omega⟩
  · rintro r22 s ⟨hs, hf⟩
    have e0 : s.2.1 1 0 = nI n := by rw [hs.2.1 1 (by decide)]; exact h0
    unfold jm_finds_L22
    simp only [jm_orders_eq, Option.bind_some, e0, jx_nx]
    rw [if_pos (nI_le (by omega) (by omega))]
    unfold jm_finds_h61
    -- rounds: at index r the round r + 1 begins
    refine jw_for (σ := jm_S) n (fun r s => (nI (r + 1), s)) (fun r s => jm_k [] [37] [] t s ∧ ∀ k, k < n → jz_fr n R A (s.2.1 37) r k) ?_ ?_ F 0 s (by omega) (by omega) ⟨hs, hf⟩
    · rintro r61 s ⟨hs, hf⟩
      have e0 : s.2.1 1 0 = nI n := by rw [hs.2.1 1 (by decide)]; exact h0
      have hfar : jz_far n R A (-1 : Int32) (s.2.1 37) := by
        intro k hk
        rcases hf k hk with ⟨d, hd, e, h⟩ | ⟨e, h⟩
        · exact Or.inl ⟨d, jz_fd_lt hA hk h, e, h⟩
        · refine Or.inr ⟨e, fun d z => h ?_⟩
          exact jz_D_le (jz_D_rest hA hk z) (by omega)
      unfold jm_finds_L61
      simp only [jm_orders_eq, Option.bind_some, e0]
      rw [if_pos (nI_lt (by omega) (by omega))]
      have := hP s hs hfar
      unfold jm_tail at this
      simp only [jm_orders_eq] at this
      exact this
    · rintro r61 r s hr ⟨hs, hf⟩ ih
      have e0 : s.2.1 1 0 = nI n := by rw [hs.2.1 1 (by decide)]; exact h0
      unfold jm_finds_L61
      simp only [jm_orders_eq, Option.bind_some, e0, jx_nx]
      rw [if_neg (nI_nlt (by omega) (by omega))]
      unfold jm_finds_h73
      refine jw_for (σ := jm_S) n (fun i s => (nI (r + 1), nI i, s)) (fun i s => jm_k [] [37] [] t s ∧ (∀ k, k < i → jz_fr n R A (s.2.1 37) (r + 1) k) ∧ ∀ k, i ≤ k → k < n → jz_fr n R A (s.2.1 37) r k) ?_ ?_ F 0 s (by omega) (by omega) ⟨hs, fun k h => by omega, fun k _ hk => hf k hk⟩
      · rintro r73 s ⟨hs, hf, -⟩
        have e0 : s.2.1 1 0 = nI n := by rw [hs.2.1 1 (by decide)]; exact h0
        unfold jm_finds_L73
        simp only [jm_orders_eq, Option.bind_some, e0, jx_nx, nI_add]
        rw [if_pos (nI_le (by omega) (by omega))]
        exact ih s ⟨hs, hf⟩
      · rintro r73 i s hi ⟨hs, hf1, hf2⟩ ih2
        have e0 : s.2.1 1 0 = nI n := by rw [hs.2.1 1 (by decide)]; exact h0
        have hi4 : i < 40 := by omega
        unfold jm_finds_L73 jm_finds_b151
        simp only [jm_orders_eq, Option.bind_some, e0, jx_nx, nI_add, jx_ga_nI hi4 (show 40 < 2 ^ 31 by decide)]
        rw [if_neg (nI_ge (by omega) (by omega))]
        rcases hf2 i (Nat.le_refl _) hi with ⟨d, hd, e, h⟩ | ⟨e, h⟩
        · rw [e, if_neg (nI_pos (by omega))]
          refine ih2 s ⟨hs, fun k hk => ?_, fun k h1 h2 => hf2 k (by omega) h2⟩
          by_cases ek : k = i
          · rw [ek]; exact Or.inl ⟨d, by omega, e, h⟩
          · exact hf1 k (by omega)
        · rw [e, if_pos (by decide)]
          -- the near ones by the last round
          have hnear : ∀ (f : Nat → Int32), (∀ k, k ≠ i → f k = s.2.1 37 k) → (f i = (-1 : Int32) ∨ f i = nI (r + 1)) → ∀ j, j < n → (f j = nI r ↔ jz_fd n R A j r) := by
            intro f hf0 hfi j hj
            by_cases ej : j = i
            · subst ej
              constructor
              · intro z
                rcases hfi with z2 | z2
                · rw [z2] at z; exact absurd z (jn_m1' (by omega))
                · rw [z2, nI_eq (by omega) (by omega)] at z; omega
              · intro z; exact absurd z.1 h
            · rw [hf0 j ej]
              have hcase : jz_fr n R A (s.2.1 37) (r + 1) j ∨ jz_fr n R A (s.2.1 37) r j := by
                rcases Nat.lt_or_ge j i with g | g
                · exact Or.inl (hf1 j g)
                · exact Or.inr (hf2 j g hj)
              constructor
              · intro z
                rcases hcase with (⟨d, hd, ed, hfd⟩ | ⟨ed, -⟩) | (⟨d, hd, ed, hfd⟩ | ⟨ed, -⟩)
                · rw [ed, nI_eq (by omega) (by omega)] at z; rw [z] at hfd; exact hfd
                · rw [ed] at z; exact absurd z (jn_m1' (by omega))
                · rw [ed, nI_eq (by omega) (by omega)] at z; rw [z] at hfd; exact hfd
                · rw [ed] at z; exact absurd z (jn_m1' (by omega))
              · intro z
                rcases hcase with (⟨d, hd, ed, hfd⟩ | ⟨ed, hno⟩) | (⟨d, hd, ed, hfd⟩ | ⟨ed, hno⟩)
                · rw [ed, jz_fd_uniq hfd z]
                · exact absurd (jz_D_le z.1 (by omega)) hno
                · rw [ed, jz_fd_uniq hfd z]
                · exact absurd z.1 hno
          unfold jm_finds_h98
          refine jw_for (σ := jm_S) n (fun j s => (nI (r + 1), nI i, nI j, s)) (fun j s2 => jm_k [] [37] [] t s2 ∧ (∀ k, k ≠ i → s2.2.1 37 k = s.2.1 37 k) ∧ ((s2.2.1 37 i = (-1 : Int32) ∧ ∀ q, q < j → ¬ (R i q ∧ jz_fd n R A q r)) ∨ (s2.2.1 37 i = nI (r + 1) ∧ ∃ q, q < n ∧ R i q ∧ jz_fd n R A q r))) ?_ ?_ F 0 s (by omega) (by omega) ⟨hs, fun _ _ => rfl, Or.inl ⟨e, fun q hq => by omega⟩⟩
          · rintro r98 s2 ⟨g1, g2, g3⟩
            have e0 : s2.2.1 1 0 = nI n := by rw [g1.2.1 1 (by decide)]; exact h0
            unfold jm_finds_L98 jm_finds_b151
            simp only [jm_orders_eq, Option.bind_some, e0, jx_nx, nI_add]
            rw [if_pos (nI_le (by omega) (by omega))]
            have hfr : ∀ k, k ≠ i → ∀ q, jz_fr n R A (s.2.1 37) q k → jz_fr n R A (s2.2.1 37) q k := fun k hk q z => by unfold jz_fr; rw [g2 k hk]; exact z
            refine ih2 s2 ⟨g1, fun k hk => ?_, fun k h1 h2 => hfr k (by omega) r (hf2 k (by omega) h2)⟩
            by_cases ek : k = i
            · rw [ek]
              rcases g3 with ⟨z1, z2⟩ | ⟨z1, q, z2, z3, z4⟩
              · refine Or.inr ⟨z1, ?_⟩
                rintro (z | ⟨j, hj, hr1, hd1⟩)
                · exact h z
                · obtain ⟨d', hd', hfd'⟩ := jz_D_fd r hd1
                  by_cases ed : d' = r
                  · rw [ed] at hfd'; exact z2 j hj ⟨hr1, hfd'⟩
                  · exact h (jz_D_le (d := d' + 1) (Or.inr ⟨j, hj, hr1, hfd'.1⟩) (by omega))
              · refine Or.inl ⟨r + 1, Nat.le_refl _, z1, Or.inr ⟨q, z2, z3, z4.1⟩, fun d hd z => h (jz_D_le z (by omega))⟩
            · exact hfr k ek _ (hf1 k (by omega))
          · rintro r98 j s2 hj ⟨g1, g2, g3⟩ ih3
            have e0 : s2.2.1 1 0 = nI n := by rw [g1.2.1 1 (by decide)]; exact h0
            have e35 : s2.2.2 35 = t.2.2 35 := g1.2.2 35 (by simp)
            have hj4 : j < 40 := by omega
            unfold jm_finds_L98 jm_finds_b145
            simp only [jm_orders_eq, Option.bind_some, e0, jx_nx, nI_add, jx_ga_nI hi4 (show 40 < 2 ^ 31 by decide), jx_ga_nI hj4 (show 40 < 2 ^ 31 by decide), jm_has_eq (show j < 64 by omega), e35, pk_sub (show 1 ≤ r + 1 by omega), Nat.add_sub_cancel]
            rw [if_neg (nI_ge (by omega) (by omega))]
            have hnj := hnear (s2.2.1 37) g2 (by rcases g3 with z | z; exact Or.inl z.1; exact Or.inr z.1) j hj
            have hskip : ¬ (R i j ∧ jz_fd n R A j r) → (s2.2.1 37 i = (-1 : Int32) ∧ ∀ q, q < j + 1 → ¬ (R i q ∧ jz_fd n R A q r)) ∨ (s2.2.1 37 i = nI (r + 1) ∧ ∃ q, q < n ∧ R i q ∧ jz_fd n R A q r) := by
              intro hno
              rcases g3 with z | z
              · refine Or.inl ⟨z.1, fun q hq => ?_⟩
                by_cases eq : q = j
                · rw [eq]; exact hno
                · exact z.2 q (by omega)
              · exact Or.inr z
            by_cases hb : jb (t.2.2 35 i) j = true
            · rw [jt_if hb]
              have hRij := (hm i hi j (by omega)).mp hb
              by_cases hd : s2.2.1 37 j = nI r
              · rw [if_pos hd]
                refine ih3 _ ⟨g1.setA (by decide), fun k hk => ?_, Or.inr ⟨?_, j, hj, hRij, hnj.mp hd⟩⟩
                · rw [jm_Ae, pk_un hk]; exact g2 k hk
                · rw [jm_Ae, pk_us]
              · rw [if_neg hd]
                exact ih3 s2 ⟨g1, g2, hskip (fun z => hd (hnj.mpr z.2))⟩
            · rw [jt_ifn hb]
              exact ih3 s2 ⟨g1, g2, hskip (fun z => hb ((hm i hi j (by omega)).mpr z.1))⟩
  · rintro r22 i s hi ⟨hs, hf⟩ ih
    have e0 : s.2.1 1 0 = nI n := by rw [hs.2.1 1 (by decide)]; exact h0
    unfold jm_finds_L22 jm_finds_b51
    simp only [jm_orders_eq, Option.bind_some, e0, jx_nx, nI_add, jm_has_eq (show i < 64 by omega), jx_ga_nI (show i < 40 by omega) (show 40 < 2 ^ 31 by decide)]
    rw [if_neg (nI_ge (by omega) (by omega))]
    have hold : ∀ (x : Int32) k, k < i + 1 → (k ≠ i → jz_fr n R A ((jm_setA s 37 (upd (s.2.1 37) i x)).2.1 37) 0 k) := fun x k hk hne => by
      unfold jz_fr
      rw [jm_Ae, pk_un hne]
      exact hf k (by omega)
    by_cases hb : jb v i = true
    · rw [jt_if hb]
      refine ih _ ⟨hs.setA (by decide), fun k hk => ?_⟩
      by_cases e : k = i
      · rw [e]; exact Or.inl ⟨0, Nat.le_refl _, by rw [jm_Ae, pk_us], (hv i (by omega)).mp hb, fun d hd => by omega⟩
      · exact hold _ k hk e
    · rw [jt_ifn hb]
      refine ih _ ⟨hs.setA (by decide), fun k hk => ?_⟩
      by_cases e : k = i
      · rw [e]; exact Or.inr ⟨by rw [jm_Ae, pk_us], fun z => hb ((hv i (by omega)).mpr z)⟩
      · exact hold _ k hk e
/-! the component's -/
def jz_sm (f : Nat → Nat) : Nat → Nat
  | 0 => 0
  | n + 1 => jz_sm f n + f n
theorem jz_sm_le {f : Nat → Nat} {n m : Nat} (h : ∀ k, k < n → f k ≤ m) : jz_sm f n ≤ n * m := by
  induction n with
  | zero => exact Nat.zero_le _
  | succ n ih =>
    have h1 := ih (fun k hk => h k (by omega))
    have h2 := h n (by omega)
    unfold jz_sm
    rw [Nat.succ_mul]
    omega
theorem jz_sm_cong {f g : Nat → Nat} {n : Nat} (h : ∀ k, k < n → f k = g k) : jz_sm f n = jz_sm g n := by
  induction n with
  | zero => rfl
  | succ n ih => unfold jz_sm; rw [ih (fun k hk => h k (by omega)), h n (by omega)]
theorem jz_sm_lt {f g : Nat → Nat} {n i : Nat} (hi : i < n) (h : ∀ k, k ≠ i → f k = g k) (hlt : f i < g i) : jz_sm f n < jz_sm g n := by
  induction n with
  | zero => omega
  | succ n ih =>
    unfold jz_sm
    by_cases e : i = n
    · subst e
      have := jz_sm_cong (f := f) (g := g) (n := i) (fun k hk => h k (by omega))
      omega
    · have h1 := ih (by omega)
      have h2 := h n (by omega)
      omega
noncomputable def jf_tail (F : Nat) (x1 : Int32) (S : jf_S) : Option (Int32 × jf_S) := jx_nx (jf_setI S 0 10 (nI 0)) fun S2 => if (S2.1 3 13) = 0 then some (nI 0, S2) else jx_ga (nI 0) 40 fun j4 => if (S2.2.2.1 0 4 j4) = (nI 40) then some (nI 0, S2) else jx_nx (nI 0) fun y6 => jx_ga (nI 0) 40 fun j7 => jx_nx (jf_setA S2 0 5 (upd (S2.2.2.1 0 5) j7 (nI 0))) fun S8 => jx_nx (jf_setI S8 0 10 (nI 1)) fun S9 => jf_finds_h225 F F (x1, y6, S9)
/-- an array of numbers up to 40 that are no less than the distances -/
def jz_bf (n : Nat) (R : Nat → Nat → Prop) (A : Nat → Prop) (f : Nat → Int32) (ff : Nat → Nat) : Prop := ∀ k, k < n → f k = nI (ff k) ∧ ff k ≤ 40 ∧ (ff k < 40 → jz_D n R A (ff k) k) ∧ (A k → ff k = 0)
theorem jf_far_sp {F n b p h pw : Nat} {c : jf_S} {w : Nat → Int32} {v : Int64} {A : Nat → Prop} {R : Nat → Nat → Prop} {P : Int32 × jf_S → Prop} (hF : 2000 ≤ F) (hn : n ≤ 40) (h13 : c.1 3 13 = nI n) (hA : ∀ k, A k → k < n) (hR : ∀ x y, R x y → y < n) (hv : js v A)
    (hmay : ∀ (s : jf_S), jf_k [] [] [(0, 4)] [] c s → ∀ k, k < n → ∃ u, jp_may F 3 3 1 (nI k) (nI pw) s = some (u, s) ∧ js u (R k))
    (hP : ∀ c', jf_k [] [] [(0, 4)] [] c c' → jz_far n R A (nI 40) (c'.2.2.1 0 4) → jw (jf_tail F (nI pw) c') P) : jw (jf_finds_h12 F F (nI pw, v, nI 0, c)) P := by
  unfold jf_finds_h12
  refine jw_for (σ := jf_S) n (fun i s => (nI pw, v, nI i, s)) (fun i s => jf_k [] [] [(0, 4)] [] c s ∧ ∃ ff, jz_bf i R A (s.2.2.1 0 4) ff ∧ ∀ k, k < i → (ff k = 0 ∧ A k) ∨ (ff k = 40 ∧ ¬ A k)) ?_ ?_ F 0 c (by omega) (by omega) ⟨jf_k.rf, fun _ => 0, fun k h => by omega, fun k h => by omega⟩
  · rintro r12 s ⟨hs, ff, hf, hf2⟩
    have e13 : s.1 3 13 = nI n := (hs.1 3 13 (by simp)).trans h13
    unfold jf_finds_L12
    simp only [e13, jx_nx]
    rw [if_pos (nI_le (by omega) (by omega))]
    unfold jf_finds_h57
    have outer : ∀ (m : Nat) (s : jf_S) (ff : Nat → Nat), jz_sm ff n + 1 < m → jf_k [] [] [(0, 4)] [] c s → jz_bf n R A (s.2.2.1 0 4) ff → jw (jx_loop (fun r (a : Int32 × Int32 × jf_S) => jf_finds_L57 F r a.1 a.2.1 a.2.2) m (nI pw, nI 1, s)) P := by
      intro m
      induction m with
      | zero => intro s ff hm; omega
      | succ m ihm =>
        intro s ff hm hs hf
        rw [jx_loop_s]
        show jw (jf_finds_L57 F _ (nI pw) (nI 1) s) P
        unfold jf_finds_L57
        rw [if_neg (by decide)]
        simp only [jx_nx]
        unfold jf_finds_h68
        refine jw_for (σ := Int32 × jf_S) n (fun i a => (nI pw, a.1, nI i, a.2)) (fun i a => jf_k [] [] [(0, 4)] [] c a.2 ∧ ∃ gg, jz_bf n R A (a.2.2.2.1 0 4) gg ∧ ((a.1 = nI 0 ∧ (∀ k, k < n → gg k = ff k) ∧ ∀ k, k < i → ∀ j, R k j → ¬ gg j + 1 < gg k) ∨ (a.1 = nI 1 ∧ jz_sm gg n < jz_sm ff n))) ?_ ?_ F 0 (nI 0, s) (by omega) (by omega) ⟨hs, ff, hf, Or.inl ⟨rfl, fun _ _ => rfl, fun k hk => by omega⟩⟩
        · rintro r68 ⟨x, a⟩ ⟨ha, gg, hg, hx⟩
          dsimp only at ha hg hx
          have e13 : a.1 3 13 = nI n := (ha.1 3 13 (by simp)).trans h13
          unfold jf_finds_L68
          simp only [e13]
          rw [if_pos (nI_le (by omega) (by omega))]
          rcases hx with ⟨hx, h1, h2⟩ | ⟨hx, h1⟩
          · rw [hx]
            cases m with
            | zero => omega
            | succ m =>
              rw [jx_loop_s]
              show jw (jf_finds_L57 F _ (nI pw) (nI 0) a) P
              unfold jf_finds_L57
              rw [if_pos (by decide)]
              refine hP a ha ?_
              have hcomp : ∀ d k, k < n → jz_D n R A d k → gg k ≤ d := by
                intro d
                induction d with
                | zero => intro k hk z; rw [(hg k hk).2.2.2 z]; exact Nat.le_refl _
                | succ d ih =>
                  intro k hk z
                  rcases z with z | ⟨j, hj, hr, z⟩
                  · have := ih k hk z; omega
                  · have := ih j hj z
                    have := h2 k hk j hr
                    omega
              intro k hk
              obtain ⟨g1, g2, g3, g4⟩ := hg k hk
              rcases Nat.lt_or_ge (gg k) 40 with hlt | hge
              · have hD := g3 hlt
                have hfd : jz_fd n R A k (gg k) := ⟨hD, fun e he z => by have := hcomp e k hk z; omega⟩
                exact Or.inl ⟨gg k, jz_fd_lt hA hk hfd, g1, hfd⟩
              · have e40 : gg k = 40 := by omega
                refine Or.inr ⟨by rw [g1, e40], fun d z => ?_⟩
                have := hcomp _ k hk (jz_D_rest hA hk z)
                omega
          · rw [hx]
            exact ihm a gg (by omega) ha hg
        · rintro r68 i ⟨x, a⟩ hi ⟨ha, gg, hg, hx⟩ ih
          dsimp only at ha hg hx
          have e13 : a.1 3 13 = nI n := (ha.1 3 13 (by simp)).trans h13
          have hi4 : i < 40 := by omega
          obtain ⟨u, eu, hu⟩ := hmay a ha i hi
          unfold jf_finds_L68
          simp only [e13]
          rw [if_neg (nI_ge (by omega) (by omega))]
          simp only [eu, Option.bind_some, jx_nx]
          unfold jf_finds_h102
          refine jw_for (σ := Int32 × jf_S) n (fun j a => (nI pw, a.1, nI i, u, nI j, a.2)) (fun j a => jf_k [] [] [(0, 4)] [] c a.2 ∧ ∃ gg, jz_bf n R A (a.2.2.2.1 0 4) gg ∧ ((a.1 = nI 0 ∧ (∀ k, k < n → gg k = ff k) ∧ (∀ k, k < i → ∀ j, R k j → ¬ gg j + 1 < gg k) ∧ ∀ q, q < j → R i q → ¬ gg q + 1 < gg i) ∨ (a.1 = nI 1 ∧ jz_sm gg n < jz_sm ff n))) ?_ ?_ F 0 (x, a) (by omega) (by omega) ⟨ha, gg, hg, ?_⟩
          · rintro r102 ⟨x, a⟩ ⟨ha, gg, hg, hx⟩
            dsimp only at ha hg hx
            have e13 : a.1 3 13 = nI n := (ha.1 3 13 (by simp)).trans h13
            unfold jf_finds_L102
            simp only [e13, jx_nx, nI_add]
            rw [if_pos (nI_le (by omega) (by omega))]
            refine ih (x, a) ⟨ha, gg, hg, ?_⟩
            rcases hx with ⟨z1, z2, z3, z4⟩ | z
            · refine Or.inl ⟨z1, z2, fun k hk j hj => ?_⟩
              by_cases e : k = i
              · rw [e] at hj ⊢; exact z4 j (hR i j hj) hj
              · exact z3 k (by omega) j hj
            · exact Or.inr z
          · rintro r102 j ⟨x, a⟩ hj ⟨ha, gg, hg, hx⟩ ih2
            dsimp only at ha hg hx
            have e13 : a.1 3 13 = nI n := (ha.1 3 13 (by simp)).trans h13
            have hj4 : j < 40 := by omega
            obtain ⟨gi1, gi2, gi3, gi4⟩ := hg i hi
            obtain ⟨gj1, gj2, gj3, gj4⟩ := hg j hj
            unfold jf_finds_L102 jf_finds_b167
            simp only [e13, jx_nx, nI_add, jb_hasnt (show j < 64 by omega), jx_ga_nI hi4 (show 40 < 2 ^ 31 by decide), jx_ga_nI hj4 (show 40 < 2 ^ 31 by decide), gi1, gj1]
            rw [if_neg (nI_ge (by omega) (by omega))]
            have hskip : ¬ (R i j ∧ gg j + 1 < gg i) → ((x = nI 0 ∧ (∀ k, k < n → gg k = ff k) ∧ (∀ k, k < i → ∀ j, R k j → ¬ gg j + 1 < gg k) ∧ ∀ q, q < j + 1 → R i q → ¬ gg q + 1 < gg i) ∨ (x = nI 1 ∧ jz_sm gg n < jz_sm ff n)) := by
              intro hno
              rcases hx with ⟨z1, z2, z3, z4⟩ | z
              · refine Or.inl ⟨z1, z2, z3, fun q hq hrq hlt => ?_⟩
                by_cases e : q = j
                · rw [e] at hrq hlt; exact hno ⟨hrq, hlt⟩
                · exact z4 q (by omega) hrq hlt
              · exact Or.inr z
            by_cases hb : jb u j = false
            · rw [if_pos hb]
              refine ih2 (x, a) ⟨ha, gg, hg, hskip (fun z => ?_)⟩
              rw [(hu j (by omega)).mpr z.1] at hb
              cases hb
            · rw [if_neg hb]
              have hRij : R i j := (hu j (by omega)).mp (by cases h : jb u j; exact absurd h hb; rfl)
              by_cases hlt : gg j + 1 < gg i
              · rw [if_pos (nI_lt hlt (by omega))]
                refine ih2 (nI 1, _) ⟨ha.setA (by simp), fun k => if k = i then gg j + 1 else gg k, ?_, Or.inr ⟨rfl, ?_⟩⟩
                · intro k hk
                  show upd (a.2.2.1 0 4) i (nI (gg j + 1)) k = nI (if k = i then gg j + 1 else gg k) ∧ (if k = i then gg j + 1 else gg k) ≤ 40 ∧ ((if k = i then gg j + 1 else gg k) < 40 → jz_D n R A (if k = i then gg j + 1 else gg k) k) ∧ (A k → (if k = i then gg j + 1 else gg k) = 0)
                  by_cases e : k = i
                  · rw [e, pk_us, if_pos rfl]
                    refine ⟨rfl, by omega, fun _ => Or.inr ⟨j, hj, hRij, gj3 (by omega)⟩, fun z => ?_⟩
                    have := gi4 z
                    omega
                  · rw [pk_un e, if_neg e]; exact hg k hk
                · have h1 : jz_sm (fun k => if k = i then gg j + 1 else gg k) n < jz_sm gg n := jz_sm_lt hi (fun k hk => if_neg hk) (by rw [if_pos rfl]; exact hlt)
                  rcases hx with ⟨_, z2, _⟩ | ⟨_, z2⟩
                  · rw [jz_sm_cong z2] at h1; exact h1
                  · omega
              · rw [if_neg (nI_nlt (Nat.le_of_not_lt hlt) (by omega))]
                exact ih2 (x, a) ⟨ha, gg, hg, hskip (fun z => hlt z.2)⟩
          · rcases hx with ⟨z1, z2, z3⟩ | z
            · exact Or.inl ⟨z1, z2, z3, fun q hq => by omega⟩
            · exact Or.inr z
    have hsm := jz_sm_le (f := ff) (n := n) (m := 40) (fun k hk => (hf k hk).2.1)
    have hnm : n * 40 ≤ 40 * 40 := Nat.mul_le_mul_right 40 hn
    exact outer F s ff (by omega) hs hf
  · rintro r12 i s hi ⟨hs, ff, hf, hf2⟩ ih
    have e13 : s.1 3 13 = nI n := (hs.1 3 13 (by simp)).trans h13
    unfold jf_finds_L12 jf_finds_b47
    simp only [e13, jx_nx, nI_add, jb_has (show i < 64 by omega), jx_ga_nI (show i < 40 by omega) (show 40 < 2 ^ 31 by decide)]
    rw [if_neg (nI_ge (by omega) (by omega))]
    have hput : ∀ d : Nat, ((d = 0 ∧ A i) ∨ (d = 40 ∧ ¬ A i)) → jw (r12 (nI pw, v, nI (i + 1), jf_setA s 0 4 (upd (s.2.2.1 0 4) i (nI d)))) P := by
      intro d hd
      refine ih _ ⟨hs.setA (by simp), fun k => if k = i then d else ff k, ?_, ?_⟩
      · intro k hk
        dsimp only
        rw [jf_Ae]
        by_cases e : k = i
        · rw [e, pk_us, if_pos rfl]
          refine ⟨rfl, by omega, fun z => ?_, fun z => ?_⟩
          · rcases hd with ⟨h1, h2⟩ | ⟨h1, h2⟩
            · rw [h1]; exact h2
            · omega
          · rcases hd with ⟨h1, h2⟩ | ⟨h1, h2⟩
            · exact h1
            · exact absurd z h2
        · rw [pk_un e, if_neg e]
          obtain ⟨a1, a2, a3, a4⟩ := hf k (by omega)
          refine ⟨a1, a2, fun z => ?_, a4⟩
          rcases hf2 k (by omega) with ⟨h1, h2⟩ | ⟨h1, h2⟩
          · rw [h1]; exact h2
          · omega
      · intro k hk
        dsimp only
        by_cases e : k = i
        · rw [e, if_pos rfl]; exact hd
        · rw [if_neg e]; exact hf2 k (by omega)
    by_cases hb : jb v i = true
    · rw [if_pos hb]
      exact hput 0 (Or.inl ⟨rfl, (hv i (by omega)).mp hb⟩)
    · rw [if_neg hb]
      exact hput 40 (Or.inr ⟨rfl, fun z => hb ((hv i (by omega)).mpr z)⟩)
