/-! values, sums, what a guard lets: both sides -/
set_option maxRecDepth 100000
theorem jc_pos {x y : Int64} : 0 < lg_cmp x y ↔ y < x := by
  unfold lg_cmp
  by_cases h : x > y
  · rw [if_pos h]; exact ⟨fun _ => h, fun _ => by decide⟩
  · rw [if_neg h]
    by_cases h2 : x = y
    · rw [if_pos h2]; exact ⟨fun z => absurd z (by decide), fun z => absurd z h⟩
    · rw [if_neg h2]; exact ⟨fun z => absurd z (by decide), fun z => absurd z h⟩
theorem jc_le0 {x y : Int64} : lg_cmp x y ≤ 0 ↔ ¬ y < x := by
  unfold lg_cmp
  by_cases h : x > y
  · rw [if_pos h]; exact ⟨fun z => absurd z (by decide), fun z => absurd h z⟩
  · rw [if_neg h]
    by_cases h2 : x = y
    · rw [if_pos h2]; exact ⟨fun _ => h, fun _ => by decide⟩
    · rw [if_neg h2]; exact ⟨fun _ => h, fun _ => by decide⟩
theorem jc_ge0 {x y : Int64} : 0 ≤ lg_cmp x y ↔ ¬ x < y := by
  unfold lg_cmp
  by_cases h : x > y
  · rw [if_pos h]; exact ⟨fun _ z => absurd (Int64.lt_trans h z) Int64.lt_irrefl, fun _ => by decide⟩
  · rw [if_neg h]
    by_cases h2 : x = y
    · rw [if_pos h2]; exact ⟨fun _ z => by rw [h2] at z; exact Int64.lt_irrefl z, fun _ => by decide⟩
    · rw [if_neg h2]
      refine ⟨fun z => absurd z (by decide), fun z => ?_⟩
      rw [Int64.lt_iff_toInt_lt] at z
      have h' : ¬ y < x := h
      rw [Int64.lt_iff_toInt_lt] at h'
      exact absurd (Int64.toInt_inj.mp (by omega)) h2
def jz_tr (v : Int64) : Prop := (99999 : Int64) < v ∨ v < (-99999 : Int64)
theorem jl_abs {v : Int64} (h : -(2 ^ 63) < v.toInt) : lg_cmp (if 0 < v then v else -v) (99999 : Int64) ≤ 0 ↔ ¬ jz_tr v := by
  rw [jc_le0]
  unfold jz_tr
  have e1 : (99999 : Int64).toInt = 99999 := by decide
  have e2 : (-99999 : Int64).toInt = -99999 := by decide
  have e0 : (0 : Int64).toInt = 0 := by decide
  have hb := Int64.toInt_lt v
  have en : (-v).toInt = -v.toInt := by
    rw [Int64.toInt_neg]
    exact Int.bmod_eq_of_le (by omega) (by omega)
  rw [Int64.lt_iff_toInt_lt (x := 99999) (y := v), Int64.lt_iff_toInt_lt (x := v), e1, e2]
  by_cases h0 : 0 < v
  · rw [if_pos h0, Int64.lt_iff_toInt_lt, e1]
    rw [Int64.lt_iff_toInt_lt, e0] at h0
    omega
  · rw [if_neg h0, Int64.lt_iff_toInt_lt, e1, en]
    rw [Int64.lt_iff_toInt_lt, e0] at h0
    omega
/-! values of atoms -/
def jz_v (f : Nat → Int32) (v : Int32) : Int32 := if v < nI 1000 then v else f (v - nI 1000).toNatClampNeg
theorem jz_v_lt {f : Nat → Int32} {a : Nat} (h : a < 1000) : jz_v f (nI a) = nI a := if_pos (nI_lt h (by decide))
theorem jz_v_ge {f : Nat → Int32} {a : Nat} (h : 1000 ≤ a) (h2 : a < 1016) : jz_v f (nI a) = f (a - 1000) := by
  unfold jz_v
  rw [if_neg (nI_nlt h (by omega)), pk_sub h, nI_clamp (by omega)]
theorem jz_v_cong {f g : Nat → Int32} {v : Int32} (h : ∀ i, i < 16 → f i = g i) (hv : jz_at v) : jz_v f v = jz_v g v := by
  obtain ⟨a, ha, e⟩ := hv
  subst e
  rcases Nat.lt_or_ge a 1000 with h1 | h1
  · rw [jz_v_lt h1, jz_v_lt h1]
  · rw [jz_v_ge h1 ha, jz_v_ge h1 ha]; exact h _ (by omega)
theorem jo_ac_lt {a : Nat} (h : a < 1000) : jo_ac (nI a) = (-1 : Int32) := if_neg (nI_ge h (by decide))
theorem jo_ac_ge {a : Nat} (h : 1000 ≤ a) (h2 : a < 1016) : jo_ac (nI a) = nI (a - 1000) := (if_pos (nI_le h (by omega))).trans (pk_sub h)
theorem jo_an_lt {a : Nat} (h : a < 1000) : jo_an (nI a) = nI a := if_neg (nI_ge h (by decide))
theorem ja_of_eq {F : Nat} {v : Int32} {c : jf_S} (hv : jz_at v) : ja_of F v c = some (jz_v (c.2.2.1 5 1) v, c) := by
  obtain ⟨a, ha, e⟩ := hv
  subst e
  unfold ja_of
  rcases Nat.lt_or_ge a 1000 with h1 | h1
  · rw [if_pos (jo_ac_lt h1), jo_an_lt h1, jz_v_lt h1]
  · rw [jo_ac_ge h1 ha, if_neg (jn_m1 (by omega)), jx_ga_nI (by omega) (by decide), jz_v_ge h1 ha]
theorem jm_valueOf_eq {F : Nat} {v : Int32} {t : jm_S} (hv : jz_at v) : jm_valueOf F v t = some (jz_v (t.2.1 16) v, t) := by
  obtain ⟨a, ha, e⟩ := hv
  subst e
  unfold jm_valueOf
  rcases Nat.lt_or_ge a 1000 with h1 | h1
  · rw [if_pos (nI_lt h1 (by decide)), jz_v_lt h1]
  · rw [if_neg (nI_nlt h1 (by omega)), pk_sub h1, jx_ga_nI (by omega) (by decide), jz_v_ge h1 ha]
def jz_sum (f : Nat → Int32) (a b s : Int32) : Int64 := if s = 0 then (jz_v f a).toInt64 else if s = nI 43 then (jz_v f a).toInt64 + (jz_v f b).toInt64 else if s = nI 45 then (jz_v f a).toInt64 - (jz_v f b).toInt64 else (jz_v f a).toInt64 * (jz_v f b).toInt64
theorem jl_mul (x y : Int32) : -(2 ^ 63) < (x.toInt64 * y.toInt64).toInt := by
  have h1 := Int32.toInt_lt x
  have h2 := Int32.le_toInt x
  have h3 := Int32.toInt_lt y
  have h4 := Int32.le_toInt y
  rw [Int64.toInt_mul, Int32.toInt_toInt64, Int32.toInt_toInt64]
  have hb : -(2 ^ 62 : Int) ≤ x.toInt * y.toInt ∧ x.toInt * y.toInt ≤ 2 ^ 62 := by
    have a1 : (x.toInt).natAbs ≤ 2 ^ 31 := by omega
    have a2 : (y.toInt).natAbs ≤ 2 ^ 31 := by omega
    have a3 : (x.toInt * y.toInt).natAbs ≤ 2 ^ 31 * 2 ^ 31 := by rw [Int.natAbs_mul]; exact Nat.mul_le_mul a1 a2
    have a4 : (2 ^ 31 * 2 ^ 31 : Nat) = 2 ^ 62 := by decide
    omega
  rw [Int.bmod_eq_of_le (by omega) (by omega)]
  omega
theorem jl_add (x y : Int32) : -(2 ^ 63) < (x.toInt64 + y.toInt64).toInt := by
  have h1 := Int32.toInt_lt x
  have h2 := Int32.le_toInt x
  have h3 := Int32.toInt_lt y
  have h4 := Int32.le_toInt y
  rw [Int64.toInt_add, Int32.toInt_toInt64, Int32.toInt_toInt64, Int.bmod_eq_of_le (by omega) (by omega)]
  omega
theorem jl_sub (x y : Int32) : -(2 ^ 63) < (x.toInt64 - y.toInt64).toInt := by
  have h1 := Int32.toInt_lt x
  have h2 := Int32.le_toInt x
  have h3 := Int32.toInt_lt y
  have h4 := Int32.le_toInt y
  rw [Int64.toInt_sub, Int32.toInt_toInt64, Int32.toInt_toInt64, Int.bmod_eq_of_le (by omega) (by omega)]
  omega
theorem jz_sum_min {f : Nat → Int32} {a b s : Int32} : -(2 ^ 63) < (jz_sum f a b s).toInt := by
  unfold jz_sum
  by_cases h0 : s = 0
  · rw [if_pos h0, Int32.toInt_toInt64]
    have h2 := Int32.le_toInt (jz_v f a)
    omega
  · rw [if_neg h0]
    by_cases h1 : s = nI 43
    · rw [if_pos h1]; exact jl_add _ _
    · rw [if_neg h1]
      by_cases h2 : s = nI 45
      · rw [if_pos h2]; exact jl_sub _ _
      · rw [if_neg h2]; exact jl_mul _ _
theorem jz_sum_cong {f g : Nat → Int32} {a b s : Int32} (h : ∀ i, i < 16 → f i = g i) (ha : jz_at a) (hb : s = 0 ∨ jz_at b) : jz_sum f a b s = jz_sum g a b s := by
  unfold jz_sum
  rw [jz_v_cong h ha]
  by_cases h0 : s = 0
  · rw [if_pos h0, if_pos h0]
  · rcases hb with hb | hb
    · exact absurd hb h0
    · rw [jz_v_cong h hb]
theorem jm_sumOf_eq {F n k : Nat} {t : jm_S} (hn : n ≤ 40) (hk : k < n) (ho : jz_or (jz_O (t.2.1 1) k)) (h0 : jz_O (t.2.1 1) k 0 = nI 0) : jm_sumOf F (nI k) t = some (jz_sum (t.2.1 16) (jz_O (t.2.1 1) k 6) (jz_O (t.2.1 1) k 7) (jz_O (t.2.1 1) k 8), t) := by
  have hk4 : k < 40 := by omega
  unfold jm_sumOf jz_sum
  simp only [jm_of_eq hk4 (show 6 < 9 by decide) (show 6 ≠ 2 by decide), jm_of_eq hk4 (show 7 < 9 by decide) (show 7 ≠ 2 by decide), jm_of_eq hk4 (show 8 < 9 by decide) (show 8 ≠ 2 by decide), Option.bind_some, jx_nx, jm_valueOf_eq (ho.a6 (Or.inl h0))]
  by_cases h8 : jz_O (t.2.1 1) k 8 = 0
  · rw [if_pos h8, if_pos h8]
  · rw [if_neg h8, if_neg h8]
    rcases ho.s8 h0 with h | h
    · exact absurd h h8
    · simp only [jm_valueOf_eq h.2, Option.bind_some]
      by_cases h1 : jz_O (t.2.1 1) k 8 = nI 43
      · rw [if_pos h1, if_pos h1]
      · rw [if_neg h1, if_neg h1]
        by_cases h2 : jz_O (t.2.1 1) k 8 = nI 45
        · rw [if_pos h2, if_pos h2]
        · rw [if_neg h2, if_neg h2]
def jz_so2 (f : Nat → Int32) (a b s : Int32) : Prop := (s = nI 60 ∧ ¬ jz_v f b ≤ jz_v f a) ∨ (¬ s = nI 60 ∧ s = nI 62 ∧ ¬ jz_v f a ≤ jz_v f b) ∨ (¬ s = nI 60 ∧ ¬ s = nI 62 ∧ jz_v f a = jz_v f b)
theorem jz_so2_cong {f g : Nat → Int32} {a b s : Int32} (h : ∀ i, i < 16 → f i = g i) (ha : jz_at a) (hb : jz_at b) : jz_so2 f a b s ↔ jz_so2 g a b s := by
  unfold jz_so2
  rw [jz_v_cong h ha, jz_v_cong h hb]
theorem jf_ifHolds_eq {x s y : Int32} : jf_ifHolds x s y = some (jt ((s = nI 60 ∧ ¬ y ≤ x) ∨ (¬ s = nI 60 ∧ s = nI 62 ∧ ¬ x ≤ y) ∨ (¬ s = nI 60 ∧ ¬ s = nI 62 ∧ x = y))) := by
  unfold jf_ifHolds
  by_cases h1 : s = nI 60
  · rw [if_pos h1]
    by_cases h2 : y ≤ x
    · rw [if_pos h2, jt_n (fun z => by rcases z with z | z | z; exact z.2 h2; exact z.1 h1; exact z.1 h1)]
    · rw [if_neg h2, jt_p (Or.inl ⟨h1, h2⟩)]
  · rw [if_neg h1]
    by_cases h3 : s = nI 62
    · rw [if_pos h3]
      by_cases h2 : x ≤ y
      · rw [if_pos h2, jt_n (fun z => by rcases z with z | z | z; exact h1 z.1; exact z.2.2 h2; exact z.2.1 h3)]
      · rw [if_neg h2, jt_p (Or.inr (Or.inl ⟨h1, h3, h2⟩))]
    · rw [if_neg h3]
      by_cases h2 : x = y
      · rw [if_pos h2, jt_p (Or.inr (Or.inr ⟨h1, h3, h2⟩))]
      · rw [if_neg h2, jt_n (fun z => by rcases z with z | z | z; exact h1 z.1; exact h3 z.2.1; exact h2 z.2.2)]
theorem jm_isSo_eq {F n k : Nat} {t : jm_S} (hn : n ≤ 40) (hk : k < n) (ho : jz_or (jz_O (t.2.1 1) k)) (h3 : jz_O (t.2.1 1) k 0 = nI 3) : jm_isSo F (nI k) t = some (jt (jz_so2 (t.2.1 16) (jz_O (t.2.1 1) k 6) (jz_O (t.2.1 1) k 7) (jz_O (t.2.1 1) k 8)), t) := by
  have hk4 : k < 40 := by omega
  unfold jm_isSo jz_so2
  simp only [jm_of_eq hk4 (show 6 < 9 by decide) (show 6 ≠ 2 by decide), jm_of_eq hk4 (show 7 < 9 by decide) (show 7 ≠ 2 by decide), jm_of_eq hk4 (show 8 < 9 by decide) (show 8 ≠ 2 by decide), Option.bind_some, jx_nx, jm_valueOf_eq (ho.a6 (Or.inr (Or.inl h3))), jm_valueOf_eq (ho.a7 h3).1]
  generalize jz_v (t.2.1 16) (jz_O (t.2.1 1) k 6) = x
  generalize jz_v (t.2.1 16) (jz_O (t.2.1 1) k 7) = y
  generalize jz_O (t.2.1 1) k 8 = s
  by_cases h1 : s = nI 60
  · rw [if_pos h1]
    by_cases h2 : y ≤ x
    · rw [if_pos h2, jt_n (fun z => by rcases z with z | z | z; exact z.2 h2; exact z.1 h1; exact z.1 h1)]
    · rw [if_neg h2, jt_p (Or.inl ⟨h1, h2⟩)]
  · rw [if_neg h1]
    by_cases h3 : s = nI 62
    · rw [if_pos h3]
      by_cases h2 : x ≤ y
      · rw [if_pos h2, jt_n (fun z => by rcases z with z | z | z; exact h1 z.1; exact z.2.2 h2; exact z.2.1 h3)]
      · rw [if_neg h2, jt_p (Or.inr (Or.inl ⟨h1, h3, h2⟩))]
    · rw [if_neg h3]
      by_cases h2 : x = y
      · rw [if_pos h2, jt_p (Or.inr (Or.inr ⟨h1, h3, h2⟩))]
      · rw [if_neg h2, jt_n (fun z => by rcases z with z | z | z; exact h1 z.1; exact h3 z.2.1; exact h2 z.2.2)]
/-! what a grade lets -/
def jz_lt (n : Nat) (O : Nat → Nat → Int32) (k g j : Nat) : Prop := (g = 0 ∧ j < n) ∨ (g = 1 ∧ jz_kd n O k j) ∨ (2 ≤ g ∧ jz_fl n O k j)
theorem jz_be_lt {n j : Nat} {O : Nat → Nat → Int32} (h : jz_be n O j) : j < n := by obtain ⟨k, h1, _, h3⟩ := h; omega
theorem jz_kd_lt {n k j : Nat} {O : Nat → Nat → Int32} (h : jz_kd n O k j) : j < n := by
  rcases h with h | h
  · exact jz_be_lt h.2
  · exact h.2.1
theorem jz_fl_lt {n k j : Nat} {O : Nat → Nat → Int32} (h : jz_fl n O k j) : j < n := by
  rcases h with ⟨-, m, h1, _, h3, _⟩ | h
  · omega
  · exact jz_tf_lt h.2
theorem jz_lt_lt {n k g j : Nat} {O : Nat → Nat → Int32} (h : jz_lt n O k g j) : j < n := by
  rcases h with h | h | h
  · exact h.2
  · exact jz_kd_lt h.2
  · exact jz_fl_lt h.2
theorem jm_letsBy_sp {F n k g : Nat} {t : jm_S} (hV : jz_V (t.2.1 1) n) (hT : jm_FL n t) (hk : k < n) (hj : jz_j (jz_O (t.2.1 1)) k) (hg : g < 4) : ∃ v, jm_letsBy F (nI k) (nI g) t = some (v, t) ∧ js v (jz_lt n (jz_O (t.2.1 1)) k g) := by
  obtain ⟨hn, h0, ho⟩ := id hV
  obtain ⟨a, b⟩ := hT.2 k hk
  unfold jm_letsBy
  simp only [jm_all_eq h0, Option.bind_some, jx_ga_nI (show k < 40 by omega) (show 40 < 2 ^ 31 by decide), jn_eq0 (show g < 2 ^ 31 by omega), nI_eq (b := 1) (show g < 2 ^ 31 by omega) (by decide)]
  by_cases g0 : g = 0
  · rw [if_pos g0]
    exact ⟨_, rfl, js_congr (js_al hn) (fun j _ => ⟨fun z => Or.inl ⟨g0, z⟩, jz_lt_lt⟩)⟩
  · rw [if_neg g0]
    by_cases g1 : g = 1
    · rw [if_pos g1]
      exact ⟨_, rfl, js_congr a (fun j _ => ⟨fun z => Or.inr (Or.inl ⟨g1, z.2⟩), fun z => by rcases z with z | z | z; omega; exact ⟨hj, z.2⟩; omega⟩)⟩
    · rw [if_neg g1]
      exact ⟨_, rfl, js_congr b (fun j _ => ⟨fun z => Or.inr (Or.inr ⟨by omega, z.2⟩), fun z => by rcases z with z | z | z; omega; omega; exact ⟨hj, z.2⟩⟩)⟩
theorem jp_lets_sp {F o n k g : Nat} {O : Nat → Nat → Int32} {S : jf_S} (hn : n ≤ 40) (h13 : S.1 o 13 = nI n) (hL : jp_LN o n O S) (hk : k < n) (hj : jz_j O k) (hg : g < 4) : ∃ v, jp_lets F o (nI k) (nI g) S = some (v, S) ∧ js v (jz_lt n O k g) := by
  obtain ⟨a, b⟩ := hL.2.2 k hk hj
  unfold jp_lets
  simp only [jp_all_eq h13, Option.bind_some, jx_ga_nI (show k < 40 by omega) (show 40 < 2 ^ 31 by decide), jn_eq0 (show g < 2 ^ 31 by omega), nI_eq (b := 1) (show g < 2 ^ 31 by omega) (by decide)]
  by_cases g0 : g = 0
  · rw [if_pos g0]
    exact ⟨_, rfl, js_congr (js_al hn) (fun j _ => ⟨fun z => Or.inl ⟨g0, z⟩, jz_lt_lt⟩)⟩
  · rw [if_neg g0]
    by_cases g1 : g = 1
    · rw [if_pos g1]
      exact ⟨_, rfl, js_congr a (fun j _ => ⟨fun z => Or.inr (Or.inl ⟨g1, z⟩), fun z => by rcases z with z | z | z; omega; exact z.2; omega⟩)⟩
    · rw [if_neg g1]
      exact ⟨_, rfl, js_congr b (fun j _ => ⟨fun z => Or.inr (Or.inr ⟨by omega, z⟩), fun z => by rcases z with z | z | z; omega; omega; exact z.2⟩)⟩
