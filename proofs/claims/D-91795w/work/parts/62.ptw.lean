/-! the twin: what its small functions answer, and its flows -/
set_option maxRecDepth 100000
def jm_k (Is As Ls : List Nat) (S S' : jm_S) : Prop := (∀ i, i ∉ Is → S'.1 i = S.1 i) ∧ (∀ i, i ∉ As → S'.2.1 i = S.2.1 i) ∧ (∀ i, i ∉ Ls → S'.2.2 i = S.2.2 i)
theorem jm_k.rf {Is As Ls : List Nat} {S : jm_S} : jm_k Is As Ls S S := ⟨fun _ _ => rfl, fun _ _ => rfl, fun _ _ => rfl⟩
theorem jm_k.trans {Is As Ls : List Nat} {S S1 S2 : jm_S} (h : jm_k Is As Ls S S1) (k : jm_k Is As Ls S1 S2) : jm_k Is As Ls S S2 := ⟨fun i hi => (k.1 i hi).trans (h.1 i hi), fun i hi => (k.2.1 i hi).trans (h.2.1 i hi), fun i hi => (k.2.2 i hi).trans (h.2.2 i hi)⟩
theorem jm_k.wd {Is As Ls Is' As' Ls' : List Nat} {S S1 : jm_S} (h : jm_k Is As Ls S S1) (h1 : ∀ i ∈ Is, i ∈ Is') (h2 : ∀ i ∈ As, i ∈ As') (h3 : ∀ i ∈ Ls, i ∈ Ls') : jm_k Is' As' Ls' S S1 := ⟨fun i hi => h.1 i (fun z => hi (h1 i z)), fun i hi => h.2.1 i (fun z => hi (h2 i z)), fun i hi => h.2.2 i (fun z => hi (h3 i z))⟩
theorem jm_k.setI {Is As Ls : List Nat} {S S1 : jm_S} {k : Nat} {v : Int32} (h : jm_k Is As Ls S S1) (hk : k ∈ Is) : jm_k Is As Ls S (jm_setI S1 k v) := ⟨fun i hi => (if_neg (fun (e : i = k) => hi (by rw [e]; exact hk))).trans (h.1 i hi), h.2.1, h.2.2⟩
theorem jm_k.setA {Is As Ls : List Nat} {S S1 : jm_S} {k : Nat} {f : Nat → Int32} (h : jm_k Is As Ls S S1) (hk : k ∈ As) : jm_k Is As Ls S (jm_setA S1 k f) := ⟨h.1, fun i hi => (if_neg (fun (e : i = k) => hi (by rw [e]; exact hk))).trans (h.2.1 i hi), h.2.2⟩
theorem jm_k.setL {Is As Ls : List Nat} {S S1 : jm_S} {k : Nat} {f : Nat → Int64} (h : jm_k Is As Ls S S1) (hk : k ∈ Ls) : jm_k Is As Ls S (jm_setL S1 k f) := ⟨h.1, h.2.1, fun i hi => (if_neg (fun (e : i = k) => hi (by rw [e]; exact hk))).trans (h.2.2 i hi)⟩
theorem jm_Ie {S : jm_S} {k : Nat} {v : Int32} : (jm_setI S k v).1 k = v := if_pos rfl
theorem jm_In {S : jm_S} {k j : Nat} {v : Int32} (h : j ≠ k) : (jm_setI S k v).1 j = S.1 j := if_neg h
theorem jm_Ae {S : jm_S} {k : Nat} {f : Nat → Int32} : (jm_setA S k f).2.1 k = f := if_pos rfl
theorem jm_An {S : jm_S} {k j : Nat} {f : Nat → Int32} (h : j ≠ k) : (jm_setA S k f).2.1 j = S.2.1 j := if_neg h
theorem jm_Le {S : jm_S} {k : Nat} {f : Nat → Int64} : (jm_setL S k f).2.2 k = f := if_pos rfl
theorem jm_Ln {S : jm_S} {k j : Nat} {f : Nat → Int64} (h : j ≠ k) : (jm_setL S k f).2.2 j = S.2.2 j := if_neg h
theorem jm_orders_eq {F : Nat} {S : jm_S} : jm_orders F S = some (S.2.1 1 0, S) := by unfold jm_orders; rw [jx_ga_nI (by decide) (by decide)]
theorem jm_of_eq {F : Nat} {S : jm_S} {k c : Nat} (hk : k < 40) (hc : c < 9) (h2 : c ≠ 2) : jm_of F (nI k) (nI c) S = some (jz_O (S.2.1 1) k c, S) := by
  unfold jm_of
  rw [pk_mul, nI_add, nI_add, jx_ga_nI (by omega) (by decide), jz_O_c (w := S.2.1 1) hk hc h2]
theorem jm_of_2 {F : Nat} {S : jm_S} {k : Nat} (hk : k < 40) : jm_of F (nI k) (nI 2) S = some (S.2.1 1 (8 + 9 * k + 2), S) := by
  unfold jm_of
  rw [pk_mul, nI_add, nI_add, jx_ga_nI (by omega) (by decide)]
theorem jm_wordOf_eq {F : Nat} {S : jm_S} {k : Nat} (hk : k < 40) : jm_wordOf F (nI k) S = some (jz_O (S.2.1 1) k 0, S) := by
  unfold jm_wordOf
  rw [jm_of_eq hk (by decide) (by decide)]
  rfl
theorem jm_isJump_eq {F : Nat} {S : jm_S} {k : Nat} (hk : k < 40) : jm_isJump F (nI k) S = some (jt (jz_j (jz_O (S.2.1 1)) k), S) := by
  unfold jm_isJump
  simp only [jm_wordOf_eq hk, Option.bind_some]
  by_cases h4 : jz_O (S.2.1 1) k 0 = nI 4
  · rw [if_pos h4, jt_p (p := jz_j _ k) (Or.inl h4)]
  · rw [if_neg h4]
    by_cases h6 : jz_O (S.2.1 1) k 0 = nI 6
    · rw [if_pos h6, jt_p (p := jz_j _ k) (Or.inr (Or.inl h6))]
    · rw [if_neg h6]
      by_cases h7 : jz_O (S.2.1 1) k 0 = nI 7
      · rw [if_pos h7, jt_p (p := jz_j _ k) (Or.inr (Or.inr h7))]
      · rw [if_neg h7, jt_n (p := jz_j _ k) (fun z => by rcases z with z | z | z; exact h4 z; exact h6 z; exact h7 z)]
theorem jm_isCall_eq {F : Nat} {S : jm_S} {k : Nat} (hk : k < 40) : jm_isCall F (nI k) S = some (jt (jz_pu (jz_O (S.2.1 1)) k), S) := by
  unfold jm_isCall
  simp only [jm_wordOf_eq hk, Option.bind_some]
  by_cases h4 : jz_O (S.2.1 1) k 0 = nI 5
  · rw [if_pos h4, jt_p (p := jz_pu _ k) (Or.inl h4)]
  · rw [if_neg h4]
    by_cases h6 : jz_O (S.2.1 1) k 0 = nI 6
    · rw [if_pos h6, jt_p (p := jz_pu _ k) (Or.inr h6)]
    · rw [if_neg h6, jt_n (p := jz_pu _ k) (fun z => by rcases z with z | z; exact h4 z; exact h6 z)]
theorem jm_in_eq {x a b : Int32} : jm_in x a b = some (jt (¬ x < a ∧ ¬ b < x)) := by
  unfold jm_in
  by_cases h1 : x < a
  · rw [if_pos h1, jt_n (fun z => z.1 h1)]
  · rw [if_neg h1]
    by_cases h2 : b < x
    · rw [if_pos h2, jt_n (fun z => z.2 h2)]
    · rw [if_neg h2, jt_p ⟨h1, h2⟩]
theorem jf_isIn_eq {x a b : Int32} : jf_isIn x a b = some (jt (¬ x < a ∧ ¬ b < x)) := by
  unfold jf_isIn
  by_cases h1 : x < a
  · rw [if_pos h1, jt_n (fun z => z.1 h1)]
  · rw [if_neg h1]
    by_cases h2 : b < x
    · rw [if_pos h2, jt_n (fun z => z.2 h2)]
    · rw [if_neg h2, jt_p ⟨h1, h2⟩]
theorem jm_has_eq {x : Int64} {k : Nat} (hk : k < 64) : jm_has x (nI k) = some (jt (jb x k = true)) := by
  unfold jm_has
  by_cases h : jb x k = true
  · rw [if_pos ((jb_has hk).mpr h), jt_p h]
  · rw [if_neg (fun z => h ((jb_has hk).mp z)), jt_n h]
/-- 0 ≤ x < n by the test in(x, 0, n - 1) -/
theorem jn_inI {x : Int32} {n : Nat} (hn : n < 2 ^ 30) : (¬ x < nI 0 ∧ ¬ (nI n - nI 1) < x) ↔ ∃ j : Nat, j < n ∧ x = nI j := by
  constructor
  · rintro ⟨h1, h2⟩
    obtain ⟨j, hj, e⟩ := nI_of h1
    subst e
    refine ⟨j, ?_, rfl⟩
    rcases Nat.eq_zero_or_pos n with h0 | h0
    · subst h0
      exact absurd (Int32.lt_iff_toInt_lt.mpr (by rw [pk_sub_toInt (by decide) (by decide), nI_toInt hj]; omega)) h2
    · rw [pk_sub h0, nI_ltI (by omega) hj] at h2
      omega
  · rintro ⟨j, hj, rfl⟩
    refine ⟨nI_pos (by omega), ?_⟩
    rw [pk_sub (by omega), nI_ltI (by omega) (by omega)]
    omega
theorem jm_noOrder_eq {F : Nat} {S : jm_S} {n : Nat} (hn : n ≤ 40) (h0 : S.2.1 1 0 = nI n) {x : Int32} : jm_noOrder F x S = some (jt (¬ ∃ j : Nat, j < n ∧ x = nI j), S) := by
  unfold jm_noOrder
  simp only [jm_orders_eq, Option.bind_some, jm_in_eq, h0, jt_0]
  by_cases h : ∃ j : Nat, j < n ∧ x = nI j
  · rw [if_neg (fun z => z ((jn_inI (by omega)).mpr h)), jt_n (fun z => z h)]
  · rw [if_pos (fun z => h ((jn_inI (by omega)).mp z)), jt_p h]
theorem jm_throwsIf_1 {F : Nat} {S : jm_S} {x : Int32} : jm_throwsIf F (nI 1) x S = some (nI 1, jm_setI S 0 x) := by
  unfold jm_throwsIf
  rw [if_neg (by decide)]
  simp only [jx_nx]
  exact if_pos (Or.inr rfl)
theorem jm_throwsIf_0 {F : Nat} {S : jm_S} {x : Int32} : jm_throwsIf F (nI 0) x S = some (nI 0, S) := by
  unfold jm_throwsIf
  rw [if_pos (by decide)]
  exact if_pos (Or.inl rfl)
theorem jm_throwsIf_p {F : Nat} {S : jm_S} {p : Prop} {x : Int32} (h : p) : jm_throwsIf F (jt p) x S = some (nI 1, jm_setI S 0 x) := by rw [jt_p h, jm_throwsIf_1]
theorem jm_throwsIf_n {F : Nat} {S : jm_S} {p : Prop} {x : Int32} (h : ¬ p) : jm_throwsIf F (jt p) x S = some (nI 0, S) := by rw [jt_n h, jm_throwsIf_0]
def jz_al (n : Nat) : Int64 := (lN 1 <<< ((nI n).toInt64 &&& 63)) - lN 1
theorem js_al {n : Nat} (hn : n ≤ 40) : js (jz_al n) (fun k => k < n) := js_all (by omega)
theorem jm_all_eq {F : Nat} {S : jm_S} {n : Nat} (h0 : S.2.1 1 0 = nI n) : jm_all F S = some (jz_al n, S) := by
  unfold jm_all
  simp only [jm_orders_eq, Option.bind_some, h0]
  rfl
theorem jm_behind_sp {F : Nat} {S : jm_S} {n : Nat} (hF : 1000 ≤ F) (hn : n ≤ 40) (h0 : S.2.1 1 0 = nI n) : ∃ v, jm_behind F S = some (v, S) ∧ js v (jz_be n (jz_O (S.2.1 1))) := by
  have key : jw (jm_behind F S) (fun q => q.2 = S ∧ js q.1 (jz_be n (jz_O (S.2.1 1)))) := by
    unfold jm_behind
    simp only [jx_nx]
    unfold jm_behind_h4
    refine jw_for (σ := Int64) (n - 1) (fun i v => (v, nI i, S)) (fun i v => js v (fun j => ∃ k, k < i ∧ k + 1 < n ∧ jz_pu (jz_O (S.2.1 1)) k ∧ j = k + 1)) ?_ ?_ F 0 (lN 0) (by omega) (by omega) ?_
    · intro r v hv
      unfold jm_behind_L4
      simp only [jm_orders_eq, Option.bind_some, h0, nI_add]
      rw [if_pos (nI_le (by omega) (by omega))]
      refine jw_some ⟨rfl, js_congr hv (fun j _ => ?_)⟩
      exact ⟨fun ⟨k, _, h2, h3, h4⟩ => ⟨k, h2, h3, h4⟩, fun ⟨k, h2, h3, h4⟩ => ⟨k, by omega, h2, h3, h4⟩⟩
    · intro r i v hi hv ih
      unfold jm_behind_L4
      simp only [jm_orders_eq, Option.bind_some, h0, nI_add]
      rw [if_neg (nI_ge (by omega) (by omega))]
      simp only [jm_isCall_eq (show i < 40 by omega), Option.bind_some]
      unfold jm_behind_b32
      simp only [jx_nx, nI_add]
      by_cases hc : jz_pu (jz_O (S.2.1 1)) i
      · rw [jt_if hc]
        refine ih _ (js_congr (js_or hv (js_sh (show i + 1 < 64 by omega))) (fun j _ => ?_))
        constructor
        · rintro (⟨k, h1, h2⟩ | h1)
          · exact ⟨k, by omega, h2⟩
          · exact ⟨i, by omega, by omega, hc, h1⟩
        · rintro ⟨k, h1, h2, h3, h4⟩
          by_cases e : k = i
          · subst e; exact Or.inr h4
          · exact Or.inl ⟨k, by omega, h2, h3, h4⟩
      · rw [jt_ifn hc]
        refine ih _ (js_congr (js_or hv js_0) (fun j _ => ?_))
        constructor
        · rintro (⟨k, h1, h2⟩ | h1)
          · exact ⟨k, by omega, h2⟩
          · exact h1.elim
        · rintro ⟨k, h1, h2, h3, h4⟩
          by_cases e : k = i
          · subst e; exact absurd h3 hc
          · exact Or.inl ⟨k, by omega, h2, h3, h4⟩
    · exact js_congr js_0 (fun j _ => ⟨False.elim, fun ⟨k, h1, _⟩ => by omega⟩)
  obtain ⟨⟨v, s⟩, e, rfl, h⟩ := key
  exact ⟨v, e, h⟩
theorem jm_ofKind_sp {F : Nat} {S : jm_S} {n : Nat} (hF : 1000 ≤ F) (hn : n ≤ 40) (h0 : S.2.1 1 0 = nI n) (x : Int32) : ∃ v, jm_ofKind F x S = some (v, S) ∧ js v (jz_ki n (jz_O (S.2.1 1)) x) := by
  have key : jw (jm_ofKind F x S) (fun q => q.2 = S ∧ js q.1 (jz_ki n (jz_O (S.2.1 1)) x)) := by
    unfold jm_ofKind
    simp only [jx_nx]
    unfold jm_ofKind_h5
    refine jw_for (σ := Int64) n (fun i v => (x, v, nI i, S)) (fun i v => js v (fun j => j < i ∧ jz_O (S.2.1 1) j 1 = x)) ?_ ?_ F 0 (lN 0) (by omega) (by omega) ?_
    · intro r v hv
      unfold jm_ofKind_L5
      simp only [jm_orders_eq, Option.bind_some, h0]
      rw [if_pos (nI_le (by omega) (by omega))]
      exact jw_some ⟨rfl, hv⟩
    · intro r i v hi hv ih
      unfold jm_ofKind_L5
      simp only [jm_orders_eq, Option.bind_some, h0]
      rw [if_neg (nI_ge (by omega) (by omega))]
      simp only [jm_of_eq (show i < 40 by omega) (show 1 < 9 by decide) (show 1 ≠ 2 by decide), Option.bind_some]
      unfold jm_ofKind_b34
      simp only [jx_nx, nI_add]
      by_cases hc : jz_O (S.2.1 1) i 1 = x
      · rw [if_pos hc]
        refine ih _ (js_congr (js_or hv (js_sh (show i < 64 by omega))) (fun j _ => ?_))
        constructor
        · rintro (⟨h1, h2⟩ | h1)
          · exact ⟨by omega, h2⟩
          · subst h1; exact ⟨by omega, hc⟩
        · rintro ⟨h1, h2⟩
          by_cases e : j = i
          · exact Or.inr e
          · exact Or.inl ⟨by omega, h2⟩
      · rw [if_neg hc]
        refine ih _ (js_congr (js_or hv js_0) (fun j _ => ?_))
        constructor
        · rintro (⟨h1, h2⟩ | h1)
          · exact ⟨by omega, h2⟩
          · exact h1.elim
        · rintro ⟨h1, h2⟩
          by_cases e : j = i
          · subst e; exact absurd h2 hc
          · exact Or.inl ⟨by omega, h2⟩
    · exact js_congr js_0 (fun j _ => ⟨False.elim, fun ⟨h1, _⟩ => by omega⟩)
  obtain ⟨⟨v, s⟩, e, rfl, h⟩ := key
  exact ⟨v, e, h⟩
theorem jm_byKind_sp {F : Nat} {S : jm_S} {n k : Nat} (hF : 1000 ≤ F) (hn : n ≤ 40) (h0 : S.2.1 1 0 = nI n) (hk : k < n) : ∃ v, jm_byKind F (nI k) S = some (v, S) ∧ js v (jz_kd n (jz_O (S.2.1 1)) k) := by
  unfold jm_byKind
  simp only [jm_wordOf_eq (show k < 40 by omega), Option.bind_some]
  by_cases h7 : jz_O (S.2.1 1) k 0 = nI 7
  · obtain ⟨v, e, hv⟩ := jm_behind_sp hF hn h0
    rw [if_pos h7, e]
    exact ⟨v, rfl, js_congr hv (fun j _ => ⟨fun z => Or.inl ⟨h7, z⟩, fun z => by rcases z with z | z; exact z.2; exact absurd h7 z.1⟩)⟩
  · obtain ⟨v, e, hv⟩ := jm_ofKind_sp hF hn h0 (jz_O (S.2.1 1) k 3)
    rw [if_neg h7]
    simp only [jm_of_eq (show k < 40 by omega) (show 3 < 9 by decide) (show 3 ≠ 2 by decide), Option.bind_some, e]
    exact ⟨v, rfl, js_congr hv (fun j _ => ⟨fun z => Or.inr ⟨h7, z⟩, fun z => by rcases z with z | z; exact absurd z.1 h7; exact z.2⟩)⟩
/-- holds and odd stand in the twin's arrays -/
def jm_HO (n : Nat) (S : jm_S) : Prop := ∀ c, c < 16 → js (S.2.2 12 c) (jz_ho n (jz_O (S.2.1 1)) c) ∧ jz_b (S.2.1 13 c) (jz_od n (jz_O (S.2.1 1)) c)
theorem jm_throughFlow_sp {F : Nat} {S : jm_S} {n k : Nat} (hF : 1000 ≤ F) (hV : jz_V (S.2.1 1) n) (hH : jm_HO n S) (hk : k < n) (h7 : ¬ jz_O (S.2.1 1) k 0 = nI 7) : ∃ v, jm_throughFlow F (nI k) S = some (v, S) ∧ js v (jz_tf n (jz_O (S.2.1 1)) k) := by
  obtain ⟨hn, h0, ho⟩ := hV
  obtain ⟨c, hc, e5⟩ := (ho k hk).ce
  have hcl : jz_cl (jz_O (S.2.1 1)) k = c := by unfold jz_cl; rw [e5, nI_clamp (by omega)]
  obtain ⟨a, b⟩ := hH c hc
  unfold jm_throughFlow
  simp only [jm_of_eq (show k < 40 by omega) (show 5 < 9 by decide) (show 5 ≠ 2 by decide), Option.bind_some, e5, jx_ga_nI hc (show 16 < 2 ^ 31 by decide), jm_all_eq h0]
  by_cases hb : jz_od n (jz_O (S.2.1 1)) c
  · rw [if_neg (fun z => (b.eq0.mp z) hb)]
    obtain ⟨v, e, hv⟩ := jm_byKind_sp hF hn h0 hk
    rw [e]
    refine ⟨v, rfl, js_congr hv (fun j _ => ?_)⟩
    unfold jz_tf
    rw [hcl]
    constructor
    · rintro (z | z)
      · exact absurd z.1 h7
      · exact Or.inl ⟨hb, z.2⟩
    · rintro (z | z)
      · exact Or.inr ⟨h7, z.2⟩
      · exact absurd hb z.1
  · rw [if_pos (b.eq0.mpr hb)]
    refine ⟨_, rfl, js_congr (js_and a (js_al hn)) (fun j _ => ?_)⟩
    unfold jz_tf
    rw [hcl]
    constructor
    · rintro ⟨z1, z2⟩; exact Or.inr ⟨hb, z1, z2⟩
    · rintro (z | z)
      · exact absurd z.1 hb
      · exact z.2
/-- backward reach: the set behind r rounds and i orders (from above) -/
def jz_cB (b : Nat) : Nat → Nat → Prop := fun _ c => c = b
def jz_cC (n : Nat) (R : Nat → Nat → Prop) : Nat → Nat → Nat → Prop := fun k c d => c + k + 1 = n ∧ d < n ∧ R c d
theorem jz_cl_bw {n b : Nat} {R : Nat → Nat → Prop} (hR : ∀ x y, R x y → y < n) (hb : b < n) {c : Nat} : jz_l n (jz_cB b) (jz_cC n R) c ↔ jz_bw n R b c := by
  constructor
  · intro h X h1 h2
    exact h X (fun _ _ _ z => z ▸ h1) (fun k hk c d z hd => h2 c d (by have := z.1; omega) z.2.2 hd)
  · intro h X h1 h2
    exact h X (h1 0 (by omega) b rfl) (fun x y hx hr hy => h2 (n - 1 - x) (by omega) x y ⟨by omega, hR x y hr, hr⟩ hy)
theorem jm_comesTo_sp {F : Nat} {S : jm_S} {n b : Nat} (hF : 1000 ≤ F) (hV : jz_V (S.2.1 1) n) (hH : jm_HO n S) (hb : b < n) : ∃ v, jm_comesTo F (nI b) S = some (v, S) ∧ js v (fun e => e < n ∧ jz_bw n (jz_wi n (jz_O (S.2.1 1))) b e) := by
  obtain ⟨hn, h0, ho⟩ := id hV
  have hnx : ∀ (r : Nat) (i : Nat) (v y : Int64), i < n → js v (fun c => c < n ∧ jz_pr (jz_cB b) (jz_cC n (jz_wi n (jz_O (S.2.1 1)))) i (jz_it n (jz_cB b) (jz_cC n (jz_wi n (jz_O (S.2.1 1)))) (fun c => c = b) r) c) → (∀ j, j < n → (jb y j = true ↔ jz_wi n (jz_O (S.2.1 1)) (n - 1 - i) j)) →
      js (if lg_cmp (y &&& v) (lN 0) = 0 then v else v ||| (lN 1 <<< ((nI (n - 1 - i)).toInt64 &&& 63))) (fun c => c < n ∧ jz_pr (jz_cB b) (jz_cC n (jz_wi n (jz_O (S.2.1 1)))) (i + 1) (jz_it n (jz_cB b) (jz_cC n (jz_wi n (jz_O (S.2.1 1)))) (fun c => c = b) r) c) := by
    intro r i v y hi hv hy
    have hb0 : ∀ c, jz_cB b i c → jz_pr (jz_cB b) (jz_cC n (jz_wi n (jz_O (S.2.1 1)))) i (jz_it n (jz_cB b) (jz_cC n (jz_wi n (jz_O (S.2.1 1)))) (fun c => c = b) r) c := by
      intro c hc
      refine jz_pr_up i ?_
      clear hv hy
      induction r with
      | zero => exact hc
      | succ r ih => exact jz_pr_up n ih
    by_cases hm : lg_cmp (y &&& v) (lN 0) = 0
    · rw [if_pos hm]
      have hm2 := jb_meet.mp hm
      refine js_congr hv (fun c _ => and_congr_right (fun hc => ⟨Or.inl, ?_⟩))
      rintro (z | z | ⟨d, z, z2⟩)
      · exact z
      · exact hb0 c z
      · have e : c = n - 1 - i := by have := z.1; omega
        have z3 := z.2.2
        rw [e] at z3
        exact absurd ⟨(hy d z.2.1).mpr z3, (hv d (by have := z.2.1; omega)).mpr ⟨z.2.1, z2⟩⟩ (hm2 d (by have := z.2.1; omega))
    · rw [if_neg hm]
      have hm2 : ∃ d, d < n ∧ jb y d = true ∧ jb v d = true := by
        refine Classical.byContradiction fun hno => hm (jb_meet.mpr (fun d hd z => hno ⟨d, ((hv d hd).mp z.2).1, z.1, z.2⟩))
      obtain ⟨d, hd, hd1, hd2⟩ := hm2
      refine js_congr (js_or hv (js_sh (show n - 1 - i < 64 by omega))) (fun c _ => ?_)
      constructor
      · rintro (z | z)
        · exact ⟨z.1, Or.inl z.2⟩
        · subst z
          exact ⟨by omega, Or.inr (Or.inr ⟨d, ⟨by omega, hd, (hy d hd).mp hd1⟩, ((hv d (by omega)).mp hd2).2⟩)⟩
      · rintro ⟨hc, z | z | ⟨d, z, z2⟩⟩
        · exact Or.inl ⟨hc, z⟩
        · exact Or.inl ⟨hc, hb0 c z⟩
        · exact Or.inr (by have := z.1; omega)
  have key : jw (jm_comesTo F (nI b) S) (fun q => q.2 = S ∧ js q.1 (fun e => e < n ∧ jz_bw n (jz_wi n (jz_O (S.2.1 1))) b e)) := by
    unfold jm_comesTo
    simp only [jx_nx]
    unfold jm_comesTo_h7
    refine jw_for (σ := Int64) n (fun r v => (v, nI r, S)) (fun r v => js v (fun c => c < n ∧ jz_it n (jz_cB b) (jz_cC n (jz_wi n (jz_O (S.2.1 1)))) (fun c => c = b) r c)) ?_ ?_ F 0 _ (by omega) (by omega) ?_
    · intro r v hv
      unfold jm_comesTo_L7
      simp only [jm_orders_eq, Option.bind_some, h0]
      rw [if_pos (nI_le (by omega) (by omega))]
      refine jw_some ⟨rfl, js_congr hv (fun c _ => and_congr_right (fun hc => ?_))⟩
      rw [jz_it_l (N := n) (B := jz_cB b) (C := jz_cC n (jz_wi n (jz_O (S.2.1 1)))) (X0 := fun c => c = b) (fun c z => fun X h1 _ => h1 0 (by omega) c z) (fun k c z => by rw [z]; exact hb) (fun k c d z => ⟨by have := z.1; omega, z.2.1⟩) (Nat.le_refl n) c hc]
      exact jz_cl_bw (fun x y z => z.1) hb
    · intro r7 r v hr hv ih
      unfold jm_comesTo_L7
      simp only [jm_orders_eq, Option.bind_some, h0, jx_nx]
      rw [if_neg (nI_ge (by omega) (by omega)), pk_sub (by omega)]
      unfold jm_comesTo_h24
      have hin : ∀ (m i : Nat) (v : Int64), i ≤ n → n - i < m → js v (fun c => c < n ∧ jz_pr (jz_cB b) (jz_cC n (jz_wi n (jz_O (S.2.1 1)))) i (jz_it n (jz_cB b) (jz_cC n (jz_wi n (jz_O (S.2.1 1)))) (fun c => c = b) r) c) →
          jw (jx_loop (fun r24 (a : Int64 × Int32 × Int32 × jm_S) => jm_comesTo_L24 F r7 r24 a.1 a.2.1 a.2.2.1 a.2.2.2) m (v, nI r, (if i = n then (-1 : Int32) else nI (n - 1 - i)), S)) (fun q => q.2 = S ∧ js q.1 (fun e => e < n ∧ jz_bw n (jz_wi n (jz_O (S.2.1 1))) b e)) := by
        intro m i v hi hm hv
        refine jw_for (σ := Int64) n (fun i v => (v, nI r, (if i = n then (-1 : Int32) else nI (n - 1 - i)), S)) (fun i v => js v (fun c => c < n ∧ jz_pr (jz_cB b) (jz_cC n (jz_wi n (jz_O (S.2.1 1)))) i (jz_it n (jz_cB b) (jz_cC n (jz_wi n (jz_O (S.2.1 1)))) (fun c => c = b) r) c)) ?_ ?_ m i v hi hm hv
        · intro r24 v hv
          unfold jm_comesTo_L24
          simp only [if_pos, jx_nx, nI_add, jn_m1lt]
          exact ih v hv
        · intro r24 i v hi hv ih2
          have hne : ¬ i = n := by omega
          have hlt : n - 1 - i < n := by omega
          have hlt4 : n - 1 - i < 40 := by omega
          have hback : ∀ y : Int64, (∀ j, j < n → (jb y j = true ↔ jz_wi n (jz_O (S.2.1 1)) (n - 1 - i) j)) → jw (jm_comesTo_b114 F r7 r24 v (nI r) (nI (n - 1 - i)) y S) (fun q => q.2 = S ∧ js q.1 (fun e => e < n ∧ jz_bw n (jz_wi n (jz_O (S.2.1 1))) b e)) := by
            intro y hy
            have hs := hnx r i v y hi hv hy
            have hidx : nI (n - 1 - i) + (-1 : Int32) = (if i + 1 = n then (-1 : Int32) else nI (n - 1 - (i + 1))) := by
              by_cases e : i + 1 = n
              · rw [if_pos e, show n - 1 - i = 0 by omega]; decide
              · rw [if_neg e, show n - 1 - i = (n - 1 - (i + 1)) + 1 by omega, pk_m1]
            unfold jm_comesTo_b114 jm_comesTo_b130
            simp only [jx_nx]
            rw [hidx]
            by_cases hm : lg_cmp (y &&& v) (lN 0) = 0
            · rw [if_pos hm] at hs ⊢
              exact ih2 v hs
            · rw [if_neg hm] at hs ⊢
              exact ih2 _ hs
          unfold jm_comesTo_L24
          simp only [if_neg hne, jx_nx, jm_wordOf_eq hlt4, Option.bind_some]
          rw [if_neg (nI_pos (by omega))]
          unfold jm_comesTo_b52 jm_comesTo_b66
          simp only [jm_of_eq hlt4 (show 4 < 9 by decide) (show 4 ≠ 2 by decide), Option.bind_some, jx_nx, nI_add]
          obtain ⟨wd, hwd, e0⟩ := (ho _ hlt).wd
          have hwi : ∀ j, jz_wi n (jz_O (S.2.1 1)) (n - 1 - i) j ↔ j < n ∧ ((wd = 2 ∧ jz_O (S.2.1 1) (n - 1 - i) 4 = nI j) ∨ (wd = 3 ∧ (jz_O (S.2.1 1) (n - 1 - i) 4 = nI j ∨ j = n - 1 - i + 1)) ∨ (wd = 4 ∧ jz_tf n (jz_O (S.2.1 1)) (n - 1 - i) j) ∨ (¬ wd = 2 ∧ ¬ wd = 3 ∧ ¬ wd = 4 ∧ ¬ wd = 7 ∧ ¬ wd = 9 ∧ j = n - 1 - i + 1)) := by
            intro j
            unfold jz_wi
            rw [e0, nI_eq (b := 2) (by omega) (by decide), nI_eq (b := 3) (by omega) (by decide), nI_eq (b := 4) (by omega) (by decide), nI_eq (b := 7) (by omega) (by decide), nI_eq (b := 9) (by omega) (by decide)]
          rw [e0]
          simp only [nI_eq (b := 2) (show wd < 2 ^ 31 by omega) (by decide), nI_eq (b := 3) (show wd < 2 ^ 31 by omega) (by decide), nI_eq (b := 4) (show wd < 2 ^ 31 by omega) (by decide), nI_eq (b := 7) (show wd < 2 ^ 31 by omega) (by decide), nI_eq (b := 9) (show wd < 2 ^ 31 by omega) (by decide)]
          by_cases w2 : wd = 2
          · obtain ⟨p, hp, e4⟩ := (ho _ hlt).pl (by rw [e0, w2]; exact Or.inr (Or.inl rfl))
            rw [if_pos w2, if_neg (by omega), if_pos w2, e4]
            refine hback _ (fun j hj => ?_)
            rw [hwi, jb_or, jb_0, jb_sh (by omega), e4, nI_eq (by omega) (by omega)]
            simp [w2]
            omega
          · rw [if_neg w2]
            by_cases w3 : wd = 3
            · obtain ⟨p, hp, e4⟩ := (ho _ hlt).pl (by rw [e0, w3]; exact Or.inr (Or.inr (Or.inl rfl)))
              rw [if_pos w3, if_neg (by omega), if_neg (by omega), if_neg (by omega), if_neg (by omega), e4]
              refine hback _ (fun j hj => ?_)
              rw [hwi, jb_or, jb_or, jb_0, jb_sh (by omega), jb_sh (by omega), e4, nI_eq (by omega) (by omega)]
              simp [w3]
              omega
            · rw [if_neg w3]
              by_cases w4 : wd = 4
              · rw [if_pos w4]
                obtain ⟨y, e, hy⟩ := jm_throughFlow_sp hF hV hH hlt (by rw [e0, w4]; decide)
                rw [e]
                refine hback y (fun j hj => ?_)
                rw [hy j (by omega), hwi]
                simp [w4, hj]
              · rw [if_neg w4]
                by_cases w7 : wd = 7
                · rw [if_neg (by omega), if_pos w7]
                  refine hback _ (fun j hj => ?_)
                  rw [hwi, jb_0]
                  simp [w7]
                · by_cases w9 : wd = 9
                  · rw [if_neg (by omega), if_neg w7, if_pos w9]
                    refine hback _ (fun j hj => ?_)
                    rw [hwi, jb_0]
                    simp [w9]
                  · rw [if_neg (by omega), if_neg w7, if_neg w9]
                    refine hback _ (fun j hj => ?_)
                    rw [hwi, jb_or, jb_0, jb_sh (by omega)]
                    simp [w2, w3, w4, w7, w9, hj]
      have h3 := hin F 0 v (by omega) (by omega) hv
      rw [if_neg (by omega)] at h3
      exact h3
    · exact js_congr (js_sh (show b < 64 by omega)) (fun c _ => ⟨fun z => ⟨by omega, z⟩, fun z => z.2⟩)
  obtain ⟨⟨v, s⟩, e, rfl, h⟩ := key
  exact ⟨v, e, h⟩
