/-! the twin's flows -/
set_option maxRecDepth 100000
theorem jm_L1 {S : jm_S} {k : Nat} {f : Nat → Int64} : (jm_setL S k f).2.1 = S.2.1 := Eq.trans rfl rfl
theorem jm_L0 {S : jm_S} {k : Nat} {f : Nat → Int64} : (jm_setL S k f).1 = S.1 := Eq.trans rfl rfl
theorem jm_A0 {S : jm_S} {k : Nat} {f : Nat → Int32} : (jm_setA S k f).1 = S.1 := Eq.trans rfl rfl
theorem jm_A2 {S : jm_S} {k : Nat} {f : Nat → Int32} : (jm_setA S k f).2.2 = S.2.2 := Eq.trans rfl rfl
theorem jm_I2 {S : jm_S} {k : Nat} {v : Int32} : (jm_setI S k v).2 = S.2 := Eq.trans rfl rfl
theorem jn_nb1 : vp_nar .boolean (nI 1) = nI 1 := by first | rfl | decide
theorem jn_nb0 : vp_nar .boolean (nI 0) = nI 0 := by first | rfl | decide
theorem jm_HO.k {n : Nat} {S S' : jm_S} (h : jm_HO n S) (h1 : S'.2.1 1 = S.2.1 1) (h2 : S'.2.1 13 = S.2.1 13) (h3 : S'.2.2 12 = S.2.2 12) : jm_HO n S' := by
  intro c hc
  rw [h1, h2, h3]
  exact h c hc
theorem jz_tf_lt {n : Nat} {O : Nat → Nat → Int32} {k j : Nat} (h : jz_tf n O k j) : j < n := by
  rcases h with h | h
  · exact h.2.1
  · exact h.2.2
theorem jm_byFlow_sp {F : Nat} {S : jm_S} {n k : Nat} (hF : 1000 ≤ F) (hV : jz_V (S.2.1 1) n) (hH : jm_HO n S) (hk : k < n) : ∃ v, jm_byFlow F (nI k) S = some (v, S) ∧ js v (jz_fl n (jz_O (S.2.1 1)) k) := by
  obtain ⟨hn, h0, ho⟩ := id hV
  have key : jw (jm_byFlow F (nI k) S) (fun q => q.2 = S ∧ js q.1 (jz_fl n (jz_O (S.2.1 1)) k)) := by
    unfold jm_byFlow
    simp only [jm_wordOf_eq (show k < 40 by omega), Option.bind_some]
    by_cases h7 : jz_O (S.2.1 1) k 0 = nI 7
    · rw [if_pos h7]
      obtain ⟨v, e, hv⟩ := jm_comesTo_sp hF hV hH hk
      simp only [e, Option.bind_some, jx_nx]
      unfold jm_byFlow_h28
      refine jw_for (σ := Int64) (n - 1) (fun i x => (v, x, nI i, S)) (fun i x => js x (fun j => ∃ m, m < i ∧ m + 1 < n ∧ jz_pu (jz_O (S.2.1 1)) m ∧ j = m + 1 ∧ ∃ e, jz_ca n (jz_O (S.2.1 1)) m e ∧ jz_fw n (jz_wi n (jz_O (S.2.1 1))) e k)) ?_ ?_ F 0 (lN 0) (by omega) (by omega) ?_
      · intro r x hx
        unfold jm_byFlow_L28
        simp only [jm_orders_eq, Option.bind_some, h0, nI_add]
        rw [if_pos (nI_le (by omega) (by omega))]
        refine jw_some ⟨rfl, js_congr hx (fun j _ => ⟨fun ⟨m, _, h2⟩ => Or.inl ⟨h7, m, h2⟩, fun z => ?_⟩)⟩
        rcases z with ⟨-, m, h1, h2⟩ | z
        · exact ⟨m, by omega, h1, h2⟩
        · exact absurd h7 z.1
      · intro r i x hi hx ih
        unfold jm_byFlow_L28
        simp only [jm_orders_eq, Option.bind_some, h0, nI_add]
        rw [if_neg (nI_ge (by omega) (by omega))]
        simp only [jm_isCall_eq (show i < 40 by omega), Option.bind_some]
        by_cases hc : jz_pu (jz_O (S.2.1 1)) i
        · rw [jt_if hc]
          have hto : ∀ y : Int64, js y (jz_ca n (jz_O (S.2.1 1)) i) → jw (jm_byFlow_b84 F r v x (nI i) y S) (fun q => q.2 = S ∧ js q.1 (jz_fl n (jz_O (S.2.1 1)) k)) := by
            intro y hy
            unfold jm_byFlow_b84 jm_byFlow_b107 jm_byFlow_b110
            simp only [jx_nx, nI_add]
            by_cases hm : lg_cmp (y &&& v) (lN 0) = 0
            · rw [if_pos hm]
              refine ih _ (js_congr (js_or hx js_0) (fun j _ => ?_))
              constructor
              · rintro (⟨m, h1, h2⟩ | h1)
                · exact ⟨m, by omega, h2⟩
                · exact h1.elim
              · rintro ⟨m, h1, h2, h3, h4, e, h5, h6⟩
                by_cases em : m = i
                · subst em
                  have he : e < n := h5.1
                  exact absurd ⟨(hy e (by omega)).mpr h5, (hv e (by omega)).mpr ⟨he, jz_fw_bw.mp h6⟩⟩ (jb_meet.mp hm e (by omega))
                · exact Or.inl ⟨m, by omega, h2, h3, h4, e, h5, h6⟩
            · rw [if_neg hm]
              have hm2 : ∃ d, d < 64 ∧ jb y d = true ∧ jb v d = true := Classical.byContradiction fun hno => hm (jb_meet.mpr (fun d hd z => hno ⟨d, hd, z.1, z.2⟩))
              obtain ⟨d, hd, hd1, hd2⟩ := hm2
              refine ih _ (js_congr (js_or hx (js_sh (show i + 1 < 64 by omega))) (fun j _ => ?_))
              constructor
              · rintro (⟨m, h1, h2⟩ | h1)
                · exact ⟨m, by omega, h2⟩
                · exact ⟨i, by omega, by omega, hc, h1, d, (hy d hd).mp hd1, jz_fw_bw.mpr ((hv d hd).mp hd2).2⟩
              · rintro ⟨m, h1, h2, h3, h4, h5⟩
                by_cases em : m = i
                · subst em; exact Or.inr h4
                · exact Or.inl ⟨m, by omega, h2, h3, h4, h5⟩
          simp only [jm_wordOf_eq (show i < 40 by omega), Option.bind_some]
          by_cases w5 : jz_O (S.2.1 1) i 0 = nI 5
          · obtain ⟨p, hp, e4⟩ := (ho i (by omega)).pl (Or.inr (Or.inr (Or.inr w5)))
            rw [if_pos w5]
            simp only [jm_of_eq (show i < 40 by omega) (show 4 < 9 by decide) (show 4 ≠ 2 by decide), Option.bind_some, e4, jm_all_eq h0]
            refine hto _ (js_congr (js_and (js_sh (show p < 64 by omega)) (js_al hn)) (fun j hj => ?_))
            unfold jz_ca
            rw [e4, nI_eq (by omega) (by omega)]
            constructor
            · rintro ⟨z1, z2⟩; exact ⟨z2, Or.inl ⟨w5, z1.symm⟩⟩
            · rintro ⟨z2, z | z⟩
              · exact ⟨z.2.symm, z2⟩
              · exact absurd w5 z.1
          · rw [if_neg w5]
            have w6 : jz_O (S.2.1 1) i 0 = nI 6 := by
              rcases hc with hc | hc
              · exact absurd hc w5
              · exact hc
            obtain ⟨y, e, hy⟩ := jm_throughFlow_sp hF hV hH (show i < n by omega) (by rw [w6]; decide)
            rw [e]
            refine hto y (js_congr hy (fun j _ => ⟨fun z => ⟨jz_tf_lt z, Or.inr ⟨w5, z⟩⟩, fun z => ?_⟩))
            rcases z.2 with z | z
            · exact absurd z.1 w5
            · exact z.2
        · rw [jt_ifn hc]
          unfold jm_byFlow_b110
          simp only [jx_nx, nI_add]
          refine ih _ (js_congr hx (fun j _ => ?_))
          constructor
          · rintro ⟨m, h1, h2⟩; exact ⟨m, by omega, h2⟩
          · rintro ⟨m, h1, h2, h3, h4⟩
            by_cases em : m = i
            · subst em; exact absurd h3 hc
            · exact ⟨m, by omega, h2, h3, h4⟩
      · exact js_congr js_0 (fun j _ => ⟨False.elim, fun ⟨m, h1, _⟩ => by omega⟩)
    · rw [if_neg h7]
      obtain ⟨v, e, hv⟩ := jm_throughFlow_sp hF hV hH hk h7
      rw [e]
      exact jw_some ⟨rfl, js_congr hv (fun j _ => ⟨fun z => Or.inr ⟨h7, z⟩, fun z => by rcases z with z | z; exact absurd z.1 h7; exact z.2⟩)⟩
  obtain ⟨⟨v, s⟩, e, rfl, h⟩ := key
  exact ⟨v, e, h⟩
def jm_LT (n : Nat) (S : jm_S) : Prop := ∀ k, k < n → js (S.2.2 14 k) (fun j => jz_j (jz_O (S.2.1 1)) k ∧ jz_kd n (jz_O (S.2.1 1)) k j) ∧ js (S.2.2 15 k) (fun j => jz_j (jz_O (S.2.1 1)) k ∧ jz_fl n (jz_O (S.2.1 1)) k j)
/-- all that flows tells -/
def jm_FL (n : Nat) (S : jm_S) : Prop := jm_HO n S ∧ jm_LT n S
theorem jm_FL.k {n : Nat} {S S' : jm_S} (h : jm_FL n S) (h1 : S'.2.1 1 = S.2.1 1) (h2 : S'.2.1 13 = S.2.1 13) (h3 : S'.2.2 12 = S.2.2 12) (h4 : S'.2.2 14 = S.2.2 14) (h5 : S'.2.2 15 = S.2.2 15) : jm_FL n S' := by
  refine ⟨h.1.k h1 h2 h3, ?_⟩
  intro k hk
  rw [h1, h4, h5]
  exact h.2 k hk
theorem jm_flows2_sp {F : Nat} {S : jm_S} {n : Nat} (hF : 1000 ≤ F) (hV : jz_V (S.2.1 1) n) (hH : jm_HO n S) : jw (jm_flows_h188 F F (nI 0, S)) (fun S' => jm_k [] [13] [12, 14, 15] S S' ∧ jm_FL n S') := by
  obtain ⟨hn, h0, ho⟩ := id hV
  unfold jm_flows_h188
  refine jw_for (σ := jm_S) n (fun i s => (nI i, s)) (fun i s => jm_k [] [] [14, 15] S s ∧ ∀ k, k < i → js (s.2.2 14 k) (fun j => jz_j (jz_O (S.2.1 1)) k ∧ jz_kd n (jz_O (S.2.1 1)) k j) ∧ js (s.2.2 15 k) (fun j => jz_j (jz_O (S.2.1 1)) k ∧ jz_fl n (jz_O (S.2.1 1)) k j)) ?_ ?_ F 0 S (by omega) (by omega) ⟨jm_k.rf, fun k h => by omega⟩
  · rintro r s ⟨hs, hl⟩
    have e1 : s.2.1 = S.2.1 := funext fun i => hs.2.1 i (by simp)
    unfold jm_flows_L188
    simp only [jm_orders_eq, Option.bind_some, e1, h0]
    rw [if_pos (nI_le (by omega) (by omega))]
    refine jw_some ⟨hs.wd (by simp) (by simp) (by simp), hH.k (by rw [e1]) (by rw [e1]) (hs.2.2 12 (by simp)), ?_⟩
    intro k hk
    rw [e1]
    exact hl k hk
  · rintro r i s hi ⟨hs, hl⟩ ih
    have e1 : s.2.1 = S.2.1 := funext fun i => hs.2.1 i (by simp)
    have hi4 : i < 40 := by omega
    have hH1 : jm_HO n s := hH.k (by rw [e1]) (by rw [e1]) (hs.2.2 12 (by simp))
    have hV1 : jz_V (s.2.1 1) n := by rw [e1]; exact hV
    have hb : ∀ x : Int64, js x (fun j => jz_j (jz_O (S.2.1 1)) i ∧ jz_kd n (jz_O (S.2.1 1)) i j) → jw (jm_flows_b218 F r (nI i) x (nI i) s) (fun S' => jm_k [] [13] [12, 14, 15] S S' ∧ jm_FL n S') := by
      intro x hx
      unfold jm_flows_b218
      simp only [jx_ga_nI hi4 (show 40 < 2 ^ 31 by decide), jx_nx, jm_isJump_eq hi4, Option.bind_some, jm_L1, e1]
      have hb2 : ∀ y : Int64, js y (fun j => jz_j (jz_O (S.2.1 1)) i ∧ jz_fl n (jz_O (S.2.1 1)) i j) → jw (jm_flows_b241 F r (nI i) y (nI i) (jm_setL s 14 (vp_updL (s.2.2 14) i x))) (fun S' => jm_k [] [13] [12, 14, 15] S S' ∧ jm_FL n S') := by
        intro y hy
        unfold jm_flows_b241
        simp only [jx_ga_nI hi4 (show 40 < 2 ^ 31 by decide), jx_nx, nI_add]
        refine ih _ ⟨(hs.setL (by simp)).setL (by simp), ?_⟩
        intro k hk
        rw [jm_Ln (by decide), jm_Le, jm_Le, jm_Ln (by decide)]
        by_cases e : k = i
        · subst e; rw [pk_uLs, pk_uLs]; exact ⟨hx, hy⟩
        · rw [pk_uLn e, pk_uLn e]; exact hl k (by omega)
      by_cases hj : jz_j (jz_O (S.2.1 1)) i
      · rw [jt_if hj]
        obtain ⟨y, e, hy⟩ := jm_byFlow_sp (F := F) (S := jm_setL s 14 (vp_updL (s.2.2 14) i x)) (n := n) (k := i) hF hV1 (hH1.k rfl rfl (jm_Ln (by decide))) hi
        rw [e]
        refine hb2 y (js_congr hy (fun j _ => ?_))
        show jz_fl n (jz_O (s.2.1 1)) i j ↔ _
        rw [e1]
        exact ⟨fun z => ⟨hj, z⟩, fun z => z.2⟩
      · rw [jt_ifn hj]
        exact hb2 _ (js_congr js_0 (fun j _ => ⟨False.elim, fun z => hj z.1⟩))
    unfold jm_flows_L188
    simp only [jm_orders_eq, Option.bind_some, e1, h0]
    rw [if_neg (nI_ge (by omega) (by omega))]
    simp only [jm_isJump_eq hi4, Option.bind_some, e1]
    by_cases hj : jz_j (jz_O (S.2.1 1)) i
    · rw [jt_if hj]
      obtain ⟨x, e, hx⟩ := jm_byKind_sp (F := F) (S := s) hF hn (by rw [e1]; exact h0) hi
      rw [e]
      refine hb x (js_congr hx (fun j _ => ?_))
      rw [e1]
      exact ⟨fun z => ⟨hj, z⟩, fun z => z.2⟩
    · rw [jt_ifn hj]
      exact hb _ (js_congr js_0 (fun j _ => ⟨False.elim, fun z => hj z.1⟩))
theorem jm_flows_sp {F : Nat} {S : jm_S} {n : Nat} (hF : 1000 ≤ F) (hV : jz_V (S.2.1 1) n) : jw (jm_flows F S) (fun S' => jm_k [] [13] [12, 14, 15] S S' ∧ jm_FL n S') := by
  obtain ⟨hn, h0, ho⟩ := id hV
  unfold jm_flows
  simp only [jx_nx]
  unfold jm_flows_h2
  refine jw_for (σ := jm_S) 16 (fun i s => (nI i, s)) (fun i s => jm_k [] [13] [12, 14, 15] S s ∧ ∀ c, c < i → s.2.2 12 c = lN 0 ∧ s.2.1 13 c = nI 0) ?_ ?_ F 0 S (by omega) (by omega) ⟨jm_k.rf, fun k h => by omega⟩
  · rintro r s ⟨hs, hz⟩
    unfold jm_flows_L2
    simp only [jx_nx]
    rw [if_pos (nI_le (by omega) (by omega))]
    unfold jm_flows_h30
    have e1 : s.2.1 1 = S.2.1 1 := hs.2.1 1 (by decide)
    refine jw_for (σ := jm_S) 17 (fun r s => (nI r, s)) (fun r s => jm_k [] [13] [12, 14, 15] S s ∧ jz_HS n (jz_O (S.2.1 1)) r 0 (s.2.2 12) (fun c => s.2.1 13 c = nI 1) ∧ ∀ c, c < 16 → s.2.1 13 c = nI 0 ∨ s.2.1 13 c = nI 1) ?_ ?_ F 0 s (by omega) (by omega) ⟨hs, jz_HS_0 (fun c hc => ⟨(hz c hc).1, by rw [(hz c hc).2]; decide⟩), fun c hc => Or.inl (hz c hc).2⟩
    · rintro r s ⟨hs, hh, hb⟩
      unfold jm_flows_L30
      simp only [jx_nx]
      rw [if_pos (nI_lt (by omega) (by omega))]
      have e1 : s.2.1 1 = S.2.1 1 := hs.2.1 1 (by decide)
      have hH : jm_HO n s := by
        intro c hc
        rw [e1]
        obtain ⟨a, b⟩ := jz_HS_end (by decide) hh c hc
        refine ⟨a, ?_⟩
        by_cases h1 : s.2.1 13 c = nI 1
        · exact Or.inl ⟨b.mp h1, h1⟩
        · rcases hb c hc with h2 | h2
          · exact Or.inr ⟨fun z => h1 (b.mpr z), h2⟩
          · exact absurd h2 h1
      exact jw_mono (jm_flows2_sp hF (by rw [e1]; exact hV) hH) (fun S' h => ⟨hs.trans h.1, h.2⟩)
    · rintro r30 r s hr ⟨hs, hh, hb⟩ ih
      unfold jm_flows_L30
      simp only [jx_nx]
      rw [if_neg (nI_nlt (by omega) (by omega))]
      unfold jm_flows_h38
      refine jw_for (σ := jm_S) n (fun i s => (nI r, nI i, s)) (fun i s => jm_k [] [13] [12, 14, 15] S s ∧ jz_HS n (jz_O (S.2.1 1)) r i (s.2.2 12) (fun c => s.2.1 13 c = nI 1) ∧ ∀ c, c < 16 → s.2.1 13 c = nI 0 ∨ s.2.1 13 c = nI 1) ?_ ?_ F 0 s (by omega) (by omega) ⟨hs, hh, hb⟩
      · rintro r38 s ⟨hs, hh, hb⟩
        have e1 : s.2.1 1 = S.2.1 1 := hs.2.1 1 (by decide)
        unfold jm_flows_L38
        simp only [jm_orders_eq, Option.bind_some, e1, h0, jx_nx, nI_add]
        rw [if_pos (nI_le (by omega) (by omega))]
        exact ih s ⟨hs, jz_HS_nx hh, hb⟩
      · rintro r38 i s hi ⟨hs, hh, hb⟩ ih2
        have e1 : s.2.1 1 = S.2.1 1 := hs.2.1 1 (by decide)
        have hi4 : i < 40 := by omega
        obtain ⟨c, hc, e5⟩ := (ho i hi).ce
        unfold jm_flows_L38
        simp only [jm_orders_eq, Option.bind_some, e1, h0]
        rw [if_neg (nI_ge (by omega) (by omega))]
        simp only [jm_of_eq hi4 (show 5 < 9 by decide) (show 5 ≠ 2 by decide), jm_wordOf_eq hi4, Option.bind_some, jx_nx, e1, e5]
        unfold jm_flows_b79
        by_cases w1 : jz_O (S.2.1 1) i 0 = nI 1
        · rw [if_pos w1]
          obtain ⟨p, hp, e4⟩ := (ho i hi).pl (Or.inl w1)
          simp only [jx_ga_nI hc (show 16 < 2 ^ 31 by decide), jm_of_eq hi4 (show 4 < 9 by decide) (show 4 ≠ 2 by decide), Option.bind_some, e1, e4, jm_wordOf_eq hi4, jm_L1]
          rw [if_neg (by rw [w1]; decide)]
          unfold jm_flows_b174
          simp only [jx_nx, nI_add]
          refine ih2 _ ⟨hs.setL (by simp), ?_, hb⟩
          rw [jm_Le]
          exact jz_HS_pt hh w1 e5 hc e4 hp (js_sh (by omega))
        · rw [if_neg w1]
          simp only [jm_wordOf_eq hi4, Option.bind_some, e1]
          by_cases w0 : jz_O (S.2.1 1) i 0 = 0
          · rw [if_pos w0]
            obtain ⟨a, ha, e6⟩ := (ho i hi).a6 (Or.inl w0)
            simp only [jm_of_eq hi4 (show 6 < 9 by decide) (show 6 ≠ 2 by decide), jm_of_eq hi4 (show 8 < 9 by decide) (show 8 ≠ 2 by decide), Option.bind_some, e1, e6, jx_nx]
            have hodd : ¬ (jz_O (S.2.1 1) i 8 = 0 ∧ nI 1000 ≤ jz_O (S.2.1 1) i 6) → jw (jm_flows_b118 F r30 r38 (nI r) (nI i) (nI c) s) (fun S' => jm_k [] [13] [12, 14, 15] S S' ∧ jm_FL n S') := by
              intro hno
              unfold jm_flows_b118 jm_flows_b174
              simp only [jx_ga_nI hc (show 16 < 2 ^ 31 by decide), jx_nx, nI_add, jn_nb1]
              refine ih2 _ ⟨hs.setA (by simp), ?_, ?_⟩
              · refine jz_HS_od hh w0 e5 hc hno (fun d hd => ?_)
                rw [jm_Ae]
                by_cases e : d = c
                · rw [e, pk_us]; exact ⟨fun _ => Or.inr rfl, fun _ => rfl⟩
                · rw [pk_un e]; exact ⟨Or.inl, fun z => by rcases z with z | z; exact z; exact absurd z e⟩
              · intro d hd
                rw [jm_Ae]
                by_cases e : d = c
                · rw [e, pk_us]; exact Or.inr rfl
                · rw [pk_un e]; exact hb d hd
            by_cases w8 : jz_O (S.2.1 1) i 8 = 0
            · rw [if_pos w8]
              rcases Nat.lt_or_ge a 1000 with hlt | hge
              · rw [if_neg (fun z => absurd (pk_sneg (a := a) (b := 1000) (by decide) hlt) (Int32.not_lt.mpr z))]
                exact hodd (fun z => absurd z.2 (by rw [e6]; exact nI_ge hlt (by decide)))
              · rw [pk_sub hge, if_pos (nI_pos' (by omega))]
                have hd : a - 1000 < 16 := by omega
                have hod' : ∀ (q : Int32) (s2 : jm_S), (q = nI 0 ∨ q = nI 1) → (q = nI 1 ↔ s.2.1 13 c = nI 1 ∨ s.2.1 13 (a - 1000) = nI 1) → jw (jm_flows_b173 F r30 r38 (nI r) (nI i) q (nI c) (jm_setL s 12 (vp_updL (s.2.2 12) c (s.2.2 12 c ||| s.2.2 12 (a - 1000))))) (fun S' => jm_k [] [13] [12, 14, 15] S S' ∧ jm_FL n S') := by
                  intro q _ hq hq1
                  have hnq : vp_nar .boolean q = q := by rcases hq with h | h <;> rw [h] <;> first | exact jn_nb0 | exact jn_nb1
                  unfold jm_flows_b173 jm_flows_b174
                  simp only [jx_ga_nI hc (show 16 < 2 ^ 31 by decide), jx_nx, nI_add, hnq, jm_L1]
                  refine ih2 _ ⟨(hs.setL (by simp)).setA (by simp), ?_, ?_⟩
                  · rw [jm_A2, jm_Le]
                    refine jz_HS_cp hh w0 w8 e5 hc (by rw [e6, show 1000 + (a - 1000) = a by omega]) hd (fun d hd => ?_)
                    rw [jm_Ae]
                    by_cases e : d = c
                    · rw [e, pk_us, hq1]; exact ⟨fun z => by rcases z with z | z; exact Or.inl z; exact Or.inr ⟨rfl, z⟩, fun z => by rcases z with z | z; exact Or.inl z; exact Or.inr z.2⟩
                    · rw [pk_un e]; exact ⟨Or.inl, fun z => by rcases z with z | z; exact z; exact absurd z.1 e⟩
                  · intro d hd
                    rw [jm_Ae]
                    by_cases e : d = c
                    · rw [e, pk_us]; exact hq
                    · rw [pk_un e]; exact hb d hd
                simp only [jx_ga_nI hc (show 16 < 2 ^ 31 by decide), jx_ga_nI hd (show 16 < 2 ^ 31 by decide), jm_L1]
                unfold jm_flows_b168
                by_cases z1 : s.2.1 13 c = 0
                · rw [if_pos z1]
                  have z1' : ¬ s.2.1 13 c = nI 1 := by rw [z1]; decide
                  by_cases z2 : s.2.1 13 (a - 1000) = 0
                  · rw [if_pos z2]
                    have z2' : ¬ s.2.1 13 (a - 1000) = nI 1 := by rw [z2]; decide
                    exact hod' (nI 0) s (Or.inl rfl) ⟨fun z => absurd z (by decide), fun z => by rcases z with z | z; exact absurd z z1'; exact absurd z z2'⟩
                  · rw [if_neg z2]
                    have z2' : s.2.1 13 (a - 1000) = nI 1 := by rcases hb _ hd with h | h; exact absurd h z2; exact h
                    exact hod' (nI 1) s (Or.inr rfl) ⟨fun _ => Or.inr z2', fun _ => rfl⟩
                · rw [if_neg z1]
                  have z1' : s.2.1 13 c = nI 1 := by rcases hb _ hc with h | h; exact absurd h z1; exact h
                  exact hod' (nI 1) s (Or.inr rfl) ⟨fun _ => Or.inl z1', fun _ => rfl⟩
            · rw [if_neg w8]
              exact hodd (fun z => w8 z.1)
          · rw [if_neg w0]
            unfold jm_flows_b174
            simp only [jx_nx, nI_add]
            exact ih2 _ ⟨hs, jz_HS_no hh w0 w1, hb⟩
  · rintro r i s hi ⟨hs, hz⟩ ih
    unfold jm_flows_L2
    simp only [jx_nx]
    rw [if_neg (nI_ge (by omega) (by omega))]
    simp only [jx_ga_nI hi (show 16 < 2 ^ 31 by decide), nI_add, jn_nb0, jm_L1]
    refine ih _ ⟨(hs.setL (by simp)).setA (by simp), ?_⟩
    intro c hc
    rw [jm_A2, jm_Le, jm_Ae]
    by_cases e : c = i
    · rw [e, pk_uLs, pk_us]; exact ⟨rfl, rfl⟩
    · rw [pk_uLn e, pk_un e]; exact hz c (by omega)
