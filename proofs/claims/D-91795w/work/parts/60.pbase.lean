/-! the plain side: weakest preconditions of the pure functions, numbers, sets of bits -/
def jw {α : Type} (o : Option α) (P : α → Prop) : Prop := ∃ a, o = some a ∧ P a
theorem jw_some {α : Type} {a : α} {P : α → Prop} (h : P a) : jw (some a) P := ⟨a, rfl, h⟩
theorem jw_bind {α β : Type} {o : Option α} {k : α → Option β} {P : β → Prop} (h : jw o (fun a => jw (k a) P)) : jw (o.bind k) P := by
  obtain ⟨a, e, b, e2, hb⟩ := h
  exact ⟨b, by rw [e]; exact e2, hb⟩
theorem jw_call {α β : Type} {o : Option α} {k : α → Option β} {Q : α → Prop} {P : β → Prop} (h : jw o Q) (h2 : ∀ a, Q a → jw (k a) P) : jw (o.bind k) P := by
  obtain ⟨a, e, ha⟩ := h
  obtain ⟨b, e2, hb⟩ := h2 a ha
  exact ⟨b, by rw [e]; exact e2, hb⟩
theorem jw_mono {α : Type} {o : Option α} {P Q : α → Prop} (h : jw o P) (hi : ∀ a, P a → Q a) : jw o Q := by
  obtain ⟨a, e, ha⟩ := h
  exact ⟨a, e, hi a ha⟩
theorem jw_ite {α : Type} {c : Prop} [Decidable c] {a b : Option α} {P : α → Prop} (h1 : c → jw a P) (h2 : ¬ c → jw b P) : jw (if c then a else b) P := by
  by_cases h : c
  · rw [if_pos h]; exact h1 h
  · rw [if_neg h]; exact h2 h
theorem jw_get {α : Type} {o : Option α} {P : α → Prop} (h : jw o P) : ∃ a, o = some a ∧ P a := h
theorem jw_loop {α β : Type} {b : (α → Option β) → α → Option β} {P : β → Prop} (I : α → Prop) (μ : α → Nat)
    (hs : ∀ (r : α → Option β) (a : α), I a → (∀ a', I a' → μ a' < μ a → jw (r a') P) → jw (b r a) P) : ∀ (n : Nat) (a : α), I a → μ a < n → jw (jx_loop b n a) P := by
  intro n
  induction n with
  | zero => intro a _ h; omega
  | succ n ih => intro a ha h; exact hs _ a ha (fun a' h1 h2 => ih a' h1 (by omega))
/-- a loop that counts up to e -/
theorem jw_for {α β σ : Type} {b : (α → Option β) → α → Option β} {P : β → Prop} (e : Nat) (st : Nat → σ → α) (I : Nat → σ → Prop)
    (hx : ∀ (r : α → Option β) (s : σ), I e s → jw (b r (st e s)) P)
    (hs : ∀ (r : α → Option β) (i : Nat) (s : σ), i < e → I i s → (∀ s', I (i + 1) s' → jw (r (st (i + 1) s')) P) → jw (b r (st i s)) P) :
    ∀ (n i : Nat) (s : σ), i ≤ e → e - i < n → I i s → jw (jx_loop b n (st i s)) P := by
  intro n
  induction n with
  | zero => intro i s _ h; omega
  | succ n ih =>
    intro i s hi h hI
    rcases Nat.lt_or_ge i e with h1 | h1
    · exact hs _ i s h1 hI (fun s' h2 => ih (i + 1) s' h1 (by omega) h2)
    · have h2 : i = e := by omega
      subst h2
      exact hx _ s hI
/-! truth values as ints -/
noncomputable def jt (p : Prop) : Int32 := @ite _ p (Classical.propDecidable p) (nI 1) (nI 0)
theorem jt_p {p : Prop} (h : p) : jt p = nI 1 := if_pos h
theorem jt_n {p : Prop} (h : ¬ p) : jt p = nI 0 := if_neg h
theorem jt_0 {p : Prop} : jt p = 0 ↔ ¬ p := by
  by_cases h : p
  · rw [jt_p h]; exact ⟨fun z => absurd z (by decide), fun z => absurd h z⟩
  · rw [jt_n h]; exact ⟨fun _ => h, fun _ => rfl⟩
theorem jt_1 {p : Prop} : jt p = nI 1 ↔ p := by
  by_cases h : p
  · rw [jt_p h]; exact ⟨fun _ => h, fun _ => rfl⟩
  · rw [jt_n h]; exact ⟨fun z => absurd z (by decide), fun z => absurd z h⟩
theorem jt_if {α : Type} {p : Prop} {a b : α} (h : p) : (if jt p = 0 then a else b) = b := if_neg (fun z => jt_0.mp z h)
theorem jt_ifn {α : Type} {p : Prop} {a b : α} (h : ¬ p) : (if jt p = 0 then a else b) = a := if_pos (jt_0.mpr h)
theorem jt_gz {α : Type} {p : Prop} {k : Option α} : jx_gz (jt p) k = k := by
  by_cases h : p
  · rw [jt_p h]; exact if_pos (Or.inr rfl)
  · rw [jt_n h]; exact if_pos (Or.inl rfl)
theorem jt_ite {α : Type} {p : Prop} [Decidable p] {k : Int32 → α} : (if p then k (nI 1) else k (nI 0)) = k (jt p) := by
  by_cases h : p
  · rw [if_pos h, jt_p h]
  · rw [if_neg h, jt_n h]
theorem jt_ite' {α : Type} {p : Prop} [Decidable p] {k : Int32 → α} : (if p then k (nI 0) else k (nI 1)) = k (jt (¬ p)) := by
  by_cases h : p
  · rw [if_pos h, jt_n (fun z => z h)]
  · rw [if_neg h, jt_p h]
theorem jt_congr {p q : Prop} (h : p ↔ q) : jt p = jt q := by
  by_cases hp : p
  · rw [jt_p hp, jt_p (h.mp hp)]
  · rw [jt_n hp, jt_n (fun z => hp (h.mpr z))]
theorem jt_z {p : Prop} (q : Nat) (h : jt p = nI q) (hq : q < 2 ^ 31) : (p ∧ q = 1) ∨ (¬ p ∧ q = 0) := by
  by_cases hp : p
  · rw [jt_p hp] at h; exact Or.inl ⟨hp, ((nI_eq (by decide) hq).mp h).symm⟩
  · rw [jt_n hp] at h; exact Or.inr ⟨hp, ((nI_eq (by decide) hq).mp h).symm⟩
/-! numbers -/
theorem jn_1 : (1 : Int32) = nI 1 := rfl
theorem jn_0 : (0 : Int32) = nI 0 := rfl
theorem jn_m1 {k : Nat} (h : k < 2 ^ 31) : ¬ nI k = (-1 : Int32) := by
  intro e
  have := congrArg Int32.toInt e
  rw [nI_toInt h] at this
  have h2 : (-1 : Int32).toInt = -1 := by decide
  omega
theorem jn_m1' {k : Nat} (h : k < 2 ^ 31) : ¬ (-1 : Int32) = nI k := fun e => jn_m1 h e.symm
theorem jn_m1lt : (-1 : Int32) < 0 := by decide
theorem jn_eq0 {k : Nat} (h : k < 2 ^ 31) : nI k = 0 ↔ k = 0 := nI_eq (b := 0) h (by decide)
theorem jn_le0 {k : Nat} (h : k < 2 ^ 31) : nI k ≤ 0 ↔ k = 0 := by
  have h2 := nI_leI (b := 0) h (by decide)
  have h3 : (nI k ≤ 0) ↔ k ≤ 0 := h2
  rw [h3]
  omega
theorem jn_0le {k : Nat} (h : k < 2 ^ 31) : (0 ≤ nI k) ↔ True := ⟨fun _ => trivial, fun _ => nI_pos' h⟩
theorem jn_lt0 {k : Nat} (h : k < 2 ^ 31) : (nI k < 0) ↔ False := ⟨fun z => nI_pos h z, False.elim⟩
theorem jx_ga_n {α : Type} {i : Int32} {n : Nat} {k : Nat → Option α} (m : Nat) (hi : i = nI m) (h : m < n) (hn : n < 2 ^ 31) : jx_ga i n k = k m := by rw [hi]; exact jx_ga_nI h hn
theorem jn_in {x : Int32} {n : Nat} (hn : n < 2 ^ 31) (h1 : ¬ x < 0) (h2 : ¬ nI n ≤ x) : ∃ j : Nat, j < n ∧ x = nI j := by
  rcases pk_ix x hn with h | h | h
  · exact absurd h h1
  · exact absurd h h2
  · exact h
/-! sets of bits -/
def jb (x : Int64) (k : Nat) : Bool := x.toBitVec.getLsbD k
theorem jb_ext {x y : Int64} (h : ∀ k, k < 64 → jb x k = jb y k) : x = y := Int64.toBitVec_inj.mp (BitVec.eq_of_getLsbD_eq (fun i hi => h i hi))
theorem jb_ge {x : Int64} {k : Nat} (h : 64 ≤ k) : jb x k = false := BitVec.getLsbD_of_ge _ _ h
theorem jb_lt {x : Int64} {k : Nat} (h : jb x k = true) : k < 64 := by
  rcases Nat.lt_or_ge k 64 with h1 | h1
  · exact h1
  · rw [jb_ge h1] at h; cases h
theorem jb_or (x y : Int64) (k : Nat) : jb (x ||| y) k = (jb x k || jb y k) := by unfold jb; rw [Int64.toBitVec_or, BitVec.getLsbD_or]
theorem jb_and (x y : Int64) (k : Nat) : jb (x &&& y) k = (jb x k && jb y k) := by unfold jb; rw [Int64.toBitVec_and, BitVec.getLsbD_and]
theorem jb_xor (x y : Int64) (k : Nat) : jb (x ^^^ y) k = (jb x k ^^ jb y k) := by unfold jb; rw [Int64.toBitVec_xor, BitVec.getLsbD_xor]
theorem jb_0 (k : Nat) : jb (lN 0) k = false := BitVec.getLsbD_zero
theorem jb_m1 : ∀ k, k < 64 → jb (-1) k = true := by decide +kernel
theorem jb_1 (k : Nat) : jb (lN 1) k = decide (k = 0) := by
  rcases Nat.lt_or_ge k 64 with h | h
  · exact (by decide +kernel : ∀ k, k < 64 → jb (lN 1) k = decide (k = 0)) k h
  · rw [jb_ge h, decide_eq_false (by omega)]
theorem jb_c : ∀ k, k < 64 → ((nI k).toInt64 &&& 63) = lN k := by decide +kernel
theorem jb_sm : ∀ k, k < 64 → ((lN k).toBitVec.smod 64).toNat = k := by decide +kernel
theorem jb_sh {k : Nat} (hk : k < 64) (j : Nat) : jb (lN 1 <<< ((nI k).toInt64 &&& 63)) j = decide (j = k) := by
  rcases Nat.lt_or_ge j 64 with h | h
  · exact (by decide +kernel : ∀ k, k < 64 → ∀ j, j < 64 → jb (lN 1 <<< ((nI k).toInt64 &&& 63)) j = decide (j = k)) k hk j h
  · rw [jb_ge h, decide_eq_false (by omega)]
theorem jb_all {n : Nat} (hn : n < 64) (j : Nat) : jb ((lN 1 <<< ((nI n).toInt64 &&& 63)) - lN 1) j = decide (j < n) := by
  rcases Nat.lt_or_ge j 64 with h | h
  · exact (by decide +kernel : ∀ n, n < 64 → ∀ j, j < 64 → jb ((lN 1 <<< ((nI n).toInt64 &&& 63)) - lN 1) j = decide (j < n)) n hn j h
  · rw [jb_ge h, decide_eq_false (by omega)]
theorem jb_shr (x : Int64) {k : Nat} (hk : k < 64) {i : Nat} (hi : k + i < 64) : jb (x >>> ((nI k).toInt64 &&& 63)) i = jb x (k + i) := by
  rw [jb_c k hk]
  unfold jb
  rw [Int64.toBitVec_shiftRight]
  show (x.toBitVec.sshiftRight ((lN k).toBitVec.smod 64).toNat).getLsbD i = _
  rw [jb_sm k hk, BitVec.getLsbD_sshiftRight]
  have h1 : ¬ 64 ≤ i := by omega
  simp [hi, h1]
theorem jc_0 {x y : Int64} : lg_cmp x y = 0 ↔ x = y := by
  unfold lg_cmp
  by_cases h : x > y
  · rw [if_pos h]
    refine ⟨fun z => absurd z (by decide), fun z => ?_⟩
    subst z
    exact absurd h Int64.lt_irrefl
  · rw [if_neg h]
    by_cases h2 : x = y
    · rw [if_pos h2]; exact ⟨fun _ => h2, fun _ => rfl⟩
    · rw [if_neg h2]; exact ⟨fun z => absurd z (by decide), fun z => absurd z h2⟩
theorem jb_and1 (x : Int64) : x &&& lN 1 = lN 1 ↔ jb x 0 = true := by
  constructor
  · intro h
    have h2 := congrArg (fun z => jb z 0) h
    simp only [jb_and, jb_1] at h2
    simpa using h2
  · intro h
    apply jb_ext
    intro k _
    rw [jb_and, jb_1]
    by_cases hk : k = 0
    · subst hk; simp [h]
    · simp [hk]
theorem jb_and0 (x : Int64) : x &&& lN 1 = lN 0 ↔ jb x 0 = false := by
  constructor
  · intro h
    have h2 := congrArg (fun z => jb z 0) h
    simp only [jb_and, jb_1, jb_0] at h2
    simpa using h2
  · intro h
    apply jb_ext
    intro k _
    rw [jb_and, jb_1, jb_0]
    by_cases hk : k = 0
    · subst hk; simp [h]
    · simp [hk]
theorem jb_has {x : Int64} {k : Nat} (hk : k < 64) : lg_cmp ((x >>> ((nI k).toInt64 &&& 63)) &&& lN 1) (lN 1) = 0 ↔ jb x k = true := by
  rw [jc_0, jb_and1, jb_shr x hk (by omega)]
  rfl
theorem jb_hasnt {x : Int64} {k : Nat} (hk : k < 64) : lg_cmp ((x >>> ((nI k).toInt64 &&& 63)) &&& lN 1) (lN 0) = 0 ↔ jb x k = false := by
  rw [jc_0, jb_and0, jb_shr x hk (by omega)]
  rfl
theorem jb_meet {x y : Int64} : lg_cmp (x &&& y) (lN 0) = 0 ↔ ∀ k, k < 64 → ¬ (jb x k = true ∧ jb y k = true) := by
  rw [jc_0]
  constructor
  · intro h k _ ⟨h1, h2⟩
    have h3 := congrArg (fun z => jb z k) h
    simp only [jb_and, jb_0, h1, h2] at h3
    cases h3
  · intro h
    apply jb_ext
    intro k hk
    rw [jb_and, jb_0]
    have h2 := h k hk
    revert h2
    cases jb x k <;> cases jb y k <;> simp
/-- the set x holds just what p says -/
def js (x : Int64) (p : Nat → Prop) : Prop := ∀ k, k < 64 → (jb x k = true ↔ p k)
theorem js_uniq {x y : Int64} {p : Nat → Prop} (h1 : js x p) (h2 : js y p) : x = y := by
  apply jb_ext
  intro k hk
  have a := h1 k hk
  have b := h2 k hk
  cases h : jb x k <;> cases h' : jb y k
  · rfl
  · exact absurd (a.mpr (b.mp h')) (by rw [h]; simp)
  · exact absurd (b.mpr (a.mp h)) (by rw [h']; simp)
  · rfl
theorem js_congr {x : Int64} {p q : Nat → Prop} (h : js x p) (e : ∀ k, k < 64 → (p k ↔ q k)) : js x q := fun k hk => (h k hk).trans (e k hk)
theorem js_0 : js (lN 0) (fun _ => False) := fun k _ => by rw [jb_0]; simp
theorem js_or {x y : Int64} {p q : Nat → Prop} (h1 : js x p) (h2 : js y q) : js (x ||| y) (fun k => p k ∨ q k) := fun k hk => by
  rw [jb_or, Bool.or_eq_true, h1 k hk, h2 k hk]
theorem js_and {x y : Int64} {p q : Nat → Prop} (h1 : js x p) (h2 : js y q) : js (x &&& y) (fun k => p k ∧ q k) := fun k hk => by
  rw [jb_and, Bool.and_eq_true, h1 k hk, h2 k hk]
theorem js_sh {m : Nat} (hm : m < 64) : js (lN 1 <<< ((nI m).toInt64 &&& 63)) (fun k => k = m) := fun k _ => by rw [jb_sh hm]; simp
theorem js_all {n : Nat} (hn : n < 64) : js ((lN 1 <<< ((nI n).toInt64 &&& 63)) - lN 1) (fun k => k < n) := fun k _ => by rw [jb_all hn]; simp
theorem js_self (x : Int64) : js x (fun k => jb x k = true) := fun _ _ => Iff.rfl
/-! ints as sets of bits -/
def jb3 (x : Int32) (k : Nat) : Bool := x.toBitVec.getLsbD k
theorem jb3_ext {x y : Int32} (h : ∀ k, k < 32 → jb3 x k = jb3 y k) : x = y := Int32.toBitVec_inj.mp (BitVec.eq_of_getLsbD_eq (fun i hi => h i hi))
theorem jb3_ge {x : Int32} {k : Nat} (h : 32 ≤ k) : jb3 x k = false := BitVec.getLsbD_of_ge _ _ h
theorem jb3_or (x y : Int32) (k : Nat) : jb3 (x ||| y) k = (jb3 x k || jb3 y k) := by unfold jb3; rw [Int32.toBitVec_or, BitVec.getLsbD_or]
theorem jb3_and (x y : Int32) (k : Nat) : jb3 (x &&& y) k = (jb3 x k && jb3 y k) := by unfold jb3; rw [Int32.toBitVec_and, BitVec.getLsbD_and]
theorem jb3_0 (k : Nat) : jb3 (nI 0) k = false := BitVec.getLsbD_zero
theorem jb3_1 (k : Nat) : jb3 (nI 1) k = decide (k = 0) := by
  rcases Nat.lt_or_ge k 32 with h | h
  · exact (by decide +kernel : ∀ k, k < 32 → jb3 (nI 1) k = decide (k = 0)) k h
  · rw [jb3_ge h, decide_eq_false (by omega)]
theorem jb3_sl : ∀ n, n < 32 → ((nI n &&& 31).toBitVec.smod 32).toNat = n := by decide +kernel
theorem jb3_shl {n : Nat} (hn : n < 32) (x : Int32) {i : Nat} (hi : i < 32) : jb3 (x <<< (nI n &&& 31)) i = (decide (n ≤ i) && jb3 x (i - n)) := by
  unfold jb3
  rw [Int32.toBitVec_shiftLeft]
  show (x.toBitVec <<< ((nI n &&& 31).toBitVec.smod 32).toNat).getLsbD i = _
  rw [jb3_sl n hn, BitVec.getLsbD_shiftLeft]
  rcases Nat.lt_or_ge i n with h | h
  · simp [h, Nat.not_le.mpr h]
  · simp [hi, h, Nat.not_lt.mpr h]
theorem jb3_shr (x : Int32) {n : Nat} (hn : n < 32) {i : Nat} (hi : n + i < 32) : jb3 (x >>> (nI n &&& 31)) i = jb3 x (n + i) := by
  unfold jb3
  rw [Int32.toBitVec_shiftRight]
  show (x.toBitVec.sshiftRight ((nI n &&& 31).toBitVec.smod 32).toNat).getLsbD i = _
  rw [jb3_sl n hn, BitVec.getLsbD_sshiftRight]
  have h1 : ¬ 32 ≤ i := by omega
  simp [hi, h1]
theorem jb3_and1 (x : Int32) : x &&& nI 1 = nI 1 ↔ jb3 x 0 = true := by
  constructor
  · intro h
    have h2 := congrArg (fun z => jb3 z 0) h
    simp only [jb3_and, jb3_1] at h2
    simpa using h2
  · intro h
    apply jb3_ext
    intro k _
    rw [jb3_and, jb3_1]
    by_cases hk : k = 0
    · subst hk; simp [h]
    · simp [hk]
theorem jb3_has {x : Int32} {k : Nat} (hk : k < 32) : (x >>> (nI k &&& 31)) &&& nI 1 = nI 1 ↔ jb3 x k = true := by
  rw [jb3_and1, jb3_shr x hk (by omega)]
  rfl
/-! counting -/
def jcn (f : Nat → Bool) : Nat → Nat
  | 0 => 0
  | n + 1 => jcn f n + (if f n then 1 else 0)
theorem jcn_le (f : Nat → Bool) (n : Nat) : jcn f n ≤ n := by
  induction n with
  | zero => exact Nat.le_refl _
  | succ n ih => unfold jcn; split <;> omega
theorem jcn_mono {f g : Nat → Bool} {n : Nat} (h : ∀ k, k < n → f k = true → g k = true) : jcn f n ≤ jcn g n := by
  induction n with
  | zero => exact Nat.le_refl _
  | succ n ih =>
    have h1 := ih (fun k hk => h k (by omega))
    have h2 := h n (by omega)
    unfold jcn
    cases hf : f n <;> cases hg : g n <;> simp [hf, hg] at h2 ⊢ <;> omega
theorem jcn_lt {f g : Nat → Bool} {n : Nat} (h : ∀ k, k < n → f k = true → g k = true) (hx : ∃ k, k < n ∧ f k = false ∧ g k = true) : jcn f n < jcn g n := by
  induction n with
  | zero => obtain ⟨k, hk, _⟩ := hx; omega
  | succ n ih =>
    obtain ⟨k, hk, h1, h2⟩ := hx
    have h3 := jcn_mono (f := f) (g := g) (n := n) (fun k hk => h k (by omega))
    have h4 := h n (by omega)
    unfold jcn
    by_cases e : k = n
    · subst e
      simp [h1, h2]; omega
    · have h5 := ih (fun k hk => h k (by omega)) ⟨k, by omega, h1, h2⟩
      cases hf : f n <;> cases hg : g n <;> simp [hf, hg] at h4 ⊢ <;> omega
theorem jcn_pos {f : Nat → Bool} {n k : Nat} (hk : k < n) (h : f k = true) : 0 < jcn f n := by
  induction n with
  | zero => omega
  | succ n ih =>
    unfold jcn
    by_cases e : k = n
    · subst e; simp [h]
    · have := ih (by omega); omega
/-- sets of numbers below N that only grow, by a step of their own: at rest by N steps -/
theorem jcn_rest {f : Nat → Nat → Bool} {N : Nat} (hm : ∀ r k, k < N → f r k = true → f (r + 1) k = true) (hst : ∀ r, (∀ k, k < N → f r k = f (r + 1) k) → ∀ k, k < N → f (r + 1) k = f (r + 2) k) :
    ∀ r, N - jcn (f 0) N ≤ r → ∀ k, k < N → f r k = f (r + 1) k := by
  have key : ∀ r, (∀ k, k < N → f r k = f (r + 1) k) ∨ jcn (f 0) N + r + 1 ≤ jcn (f (r + 1)) N := by
    intro r
    induction r with
    | zero =>
      by_cases h : ∀ k, k < N → f 0 k = f 1 k
      · exact Or.inl h
      · right
        obtain ⟨k, hk⟩ := Classical.not_forall.mp h
        obtain ⟨hk1, hk2⟩ := Classical.not_imp.mp hk
        have := jcn_lt (f := f 0) (g := f 1) (n := N) (fun k hk => hm 0 k hk) ⟨k, hk1, by
          have h3 := hm 0 k hk1
          cases h4 : f 0 k <;> cases h5 : f 1 k <;> simp_all⟩
        show jcn (f 0) N + 0 + 1 ≤ jcn (f 1) N
        omega
    | succ r ih =>
      rcases ih with ih | ih
      · exact Or.inl (hst r ih)
      · by_cases h : ∀ k, k < N → f (r + 1) k = f (r + 2) k
        · exact Or.inl h
        · right
          obtain ⟨k, hk⟩ := Classical.not_forall.mp h
          obtain ⟨hk1, hk2⟩ := Classical.not_imp.mp hk
          have := jcn_lt (f := f (r + 1)) (g := f (r + 2)) (n := N) (fun k hk => hm (r + 1) k hk) ⟨k, hk1, by
            have h3 := hm (r + 1) k hk1
            have e : r + 1 + 1 = r + 2 := rfl
            cases h4 : f (r + 1) k <;> cases h5 : f (r + 2) k <;> simp_all⟩
          show jcn (f 0) N + (r + 1) + 1 ≤ jcn (f (r + 2)) N
          omega
  intro r hr
  rcases key r with h | h
  · exact h
  · have := jcn_le (f (r + 1)) N
    have := jcn_le (f 0) N
    omega
