/-! what the program is, plainly: orders as columns, what follows from them -/
def jz_c (w : Nat → Int32) (k c : Nat) : Int32 := w (8 + 9 * k + c)
/-- the orders' columns but the grade -/
def jz_O (w : Nat → Int32) : Nat → Nat → Int32 := fun k c => if k < 40 ∧ c < 9 ∧ c ≠ 2 then w (8 + 9 * k + c) else 0
theorem jz_O_c {w : Nat → Int32} {k c : Nat} (hk : k < 40) (hc : c < 9) (h2 : c ≠ 2) : w (8 + 9 * k + c) = jz_O w k c := (if_pos ⟨hk, hc, h2⟩).symm
def jz_at (v : Int32) : Prop := ∃ a : Nat, a < 1016 ∧ v = nI a
def jz_or (o : Nat → Int32) : Prop := ∃ wd kd ce : Nat, wd < 10 ∧ kd < 4 ∧ ce < 16 ∧ o 0 = nI wd ∧ o 3 = nI kd ∧ o 5 = nI ce ∧ (o 1 = -1 ∨ ∃ e : Nat, e < 4 ∧ o 1 = nI e) ∧
  ((wd = 1 ∨ wd = 2 ∨ wd = 3 ∨ wd = 5) → ∃ p : Nat, p < 40 ∧ o 4 = nI p) ∧ (¬ (wd = 1 ∨ wd = 2 ∨ wd = 3 ∨ wd = 5) → o 4 = -1) ∧
  ((wd = 0 ∨ wd = 3 ∨ wd = 8) → jz_at (o 6)) ∧ (wd = 3 → jz_at (o 7) ∧ (o 8 = nI 60 ∨ o 8 = nI 62 ∨ o 8 = nI 61)) ∧
  (wd = 0 → o 8 = 0 ∨ ((o 8 = nI 43 ∨ o 8 = nI 45 ∨ o 8 = nI 42) ∧ jz_at (o 7)))
theorem jz_or.wd {o : Nat → Int32} (h : jz_or o) : ∃ wd : Nat, wd < 10 ∧ o 0 = nI wd := by
  obtain ⟨wd, kd, ce, h1, h2, h3, h4, -⟩ := h; exact ⟨wd, h1, h4⟩
theorem jz_or.ce {o : Nat → Int32} (h : jz_or o) : ∃ ce : Nat, ce < 16 ∧ o 5 = nI ce := by
  obtain ⟨wd, kd, ce, h1, h2, h3, h4, h5, h6, -⟩ := h; exact ⟨ce, h3, h6⟩
theorem jz_or.kd {o : Nat → Int32} (h : jz_or o) : ∃ kd : Nat, kd < 4 ∧ o 3 = nI kd := by
  obtain ⟨wd, kd, ce, h1, h2, h3, h4, h5, h6, -⟩ := h; exact ⟨kd, h2, h5⟩
theorem jz_or.en {o : Nat → Int32} (h : jz_or o) : o 1 = -1 ∨ ∃ e : Nat, e < 4 ∧ o 1 = nI e := by
  obtain ⟨wd, kd, ce, h1, h2, h3, h4, h5, h6, h7, -⟩ := h; exact h7
theorem jz_or.pl {o : Nat → Int32} (h : jz_or o) (hw : o 0 = nI 1 ∨ o 0 = nI 2 ∨ o 0 = nI 3 ∨ o 0 = nI 5) : ∃ p : Nat, p < 40 ∧ o 4 = nI p := by
  obtain ⟨wd, kd, ce, h1, h2, h3, h4, h5, h6, h7, h8, -⟩ := h
  rw [h4, nI_eq (by omega) (by decide), nI_eq (by omega) (by decide), nI_eq (by omega) (by decide), nI_eq (by omega) (by decide)] at hw
  exact h8 hw
theorem jz_or.np {o : Nat → Int32} (h : jz_or o) (hw : ¬ (o 0 = nI 1 ∨ o 0 = nI 2 ∨ o 0 = nI 3 ∨ o 0 = nI 5)) : o 4 = -1 := by
  obtain ⟨wd, kd, ce, h1, h2, h3, h4, h5, h6, h7, h8, h9, -⟩ := h
  rw [h4, nI_eq (by omega) (by decide), nI_eq (by omega) (by decide), nI_eq (by omega) (by decide), nI_eq (by omega) (by decide)] at hw
  exact h9 hw
theorem jz_or.a6 {o : Nat → Int32} (h : jz_or o) (hw : o 0 = nI 0 ∨ o 0 = nI 3 ∨ o 0 = nI 8) : jz_at (o 6) := by
  obtain ⟨wd, kd, ce, h1, h2, h3, h4, h5, h6, h7, h8, h9, h10, -⟩ := h
  rw [h4, nI_eq (by omega) (by decide), nI_eq (by omega) (by decide), nI_eq (by omega) (by decide)] at hw
  exact h10 hw
theorem jz_or.a7 {o : Nat → Int32} (h : jz_or o) (hw : o 0 = nI 3) : jz_at (o 7) ∧ (o 8 = nI 60 ∨ o 8 = nI 62 ∨ o 8 = nI 61) := by
  obtain ⟨wd, kd, ce, h1, h2, h3, h4, h5, h6, h7, h8, h9, h10, h11, -⟩ := h
  rw [h4, nI_eq (by omega) (by decide)] at hw
  exact h11 hw
theorem jz_or.s8 {o : Nat → Int32} (h : jz_or o) (hw : o 0 = nI 0) : o 8 = 0 ∨ ((o 8 = nI 43 ∨ o 8 = nI 45 ∨ o 8 = nI 42) ∧ jz_at (o 7)) := by
  obtain ⟨wd, kd, ce, h1, h2, h3, h4, h5, h6, h7, h8, h9, h10, h11, h12⟩ := h
  rw [h4, nI_eq (by omega) (by decide)] at hw
  exact h12 hw
/-- the whole world is well formed: n orders, b bends, p powers, h harms -/
def jz_W (w : Nat → Int32) (n b p h : Nat) : Prop := (n ≤ 40 ∧ b ≤ 8 ∧ p ≤ 6 ∧ h ≤ 8) ∧ (w 0 = nI n ∧ w 1 = nI b ∧ w 2 = nI p ∧ w 3 = nI h) ∧
  (∀ k, k < n → jz_or (jz_O w k)) ∧ (∀ k, k < n → ∃ g : Nat, g < 4 ∧ w (8 + 9 * k + 2) = nI g) ∧ w 4 = 0 ∧ (∀ g, 1 ≤ g → g < 4 → ∃ t : Nat, 1 ≤ t ∧ t ≤ 99 ∧ w (4 + g) = nI t) ∧
  (∀ i, i < b → ∃ s c : Nat, s < 300 ∧ c < 17 ∧ w (368 + 3 * i) = nI s ∧ w (368 + 3 * i + 1) = nI c) ∧
  (∀ i, i < p → (∃ c : Nat, c < 65536 ∧ w (392 + 2 * i) = nI c) ∧ (w (392 + 2 * i + 1) = nI 0 ∨ w (392 + 2 * i + 1) = nI 1)) ∧ (∀ i, i < h → ∃ v : Nat, v < 1000 ∧ w (404 + i) = nI v)
/-- what the program's own facts rest on -/
def jz_V (w : Nat → Int32) (n : Nat) : Prop := n ≤ 40 ∧ w 0 = nI n ∧ ∀ k, k < n → jz_or (jz_O w k)
theorem jz_W.v {w : Nat → Int32} {n b p h : Nat} (hW : jz_W w n b p h) : jz_V w n := ⟨hW.1.1, hW.2.1.1, hW.2.2.1⟩
def jz_j (O : Nat → Nat → Int32) (k : Nat) : Prop := O k 0 = nI 4 ∨ O k 0 = nI 6 ∨ O k 0 = nI 7
def jz_pu (O : Nat → Nat → Int32) (k : Nat) : Prop := O k 0 = nI 5 ∨ O k 0 = nI 6
def jz_be (n : Nat) (O : Nat → Nat → Int32) (j : Nat) : Prop := ∃ k, k + 1 < n ∧ jz_pu O k ∧ j = k + 1
def jz_ki (n : Nat) (O : Nat → Nat → Int32) (kd : Int32) (j : Nat) : Prop := j < n ∧ O j 1 = kd
def jz_kd (n : Nat) (O : Nat → Nat → Int32) (k j : Nat) : Prop := (O k 0 = nI 7 ∧ jz_be n O j) ∨ (¬ O k 0 = nI 7 ∧ jz_ki n O (O k 3) j)
def jz_pt (O : Nat → Nat → Int32) (p k c : Nat) : Prop := O k 0 = nI 1 ∧ O k 5 = nI c ∧ O k 4 = nI p ∧ c < 16
def jz_cp (O : Nat → Nat → Int32) (k c d : Nat) : Prop := O k 0 = nI 0 ∧ O k 8 = 0 ∧ O k 5 = nI c ∧ O k 6 = nI (1000 + d) ∧ c < 16 ∧ d < 16
def jz_so (O : Nat → Nat → Int32) (k c : Nat) : Prop := O k 0 = nI 0 ∧ O k 5 = nI c ∧ ¬ (O k 8 = 0 ∧ nI 1000 ≤ O k 6) ∧ c < 16
/-- the least set of cells: those of B, and those that C copies to -/
def jz_l (n : Nat) (B : Nat → Nat → Prop) (C : Nat → Nat → Nat → Prop) (c : Nat) : Prop := ∀ X : Nat → Prop, (∀ k, k < n → ∀ c, B k c → X c) → (∀ k, k < n → ∀ c d, C k c d → X d → X c) → X c
def jz_ho (n : Nat) (O : Nat → Nat → Int32) (c p : Nat) : Prop := jz_l n (jz_pt O p) (jz_cp O) c
def jz_od (n : Nat) (O : Nat → Nat → Int32) (c : Nat) : Prop := jz_l n (jz_so O) (jz_cp O) c
def jz_cl (O : Nat → Nat → Int32) (k : Nat) : Nat := (O k 5).toNatClampNeg
def jz_tf (n : Nat) (O : Nat → Nat → Int32) (k j : Nat) : Prop := (jz_od n O (jz_cl O k) ∧ jz_ki n O (O k 3) j) ∨ (¬ jz_od n O (jz_cl O k) ∧ jz_ho n O (jz_cl O k) j ∧ j < n)
def jz_wi (n : Nat) (O : Nat → Nat → Int32) (k j : Nat) : Prop := j < n ∧ ((O k 0 = nI 2 ∧ O k 4 = nI j) ∨ (O k 0 = nI 3 ∧ (O k 4 = nI j ∨ j = k + 1)) ∨ (O k 0 = nI 4 ∧ jz_tf n O k j) ∨ (¬ O k 0 = nI 2 ∧ ¬ O k 0 = nI 3 ∧ ¬ O k 0 = nI 4 ∧ ¬ O k 0 = nI 7 ∧ ¬ O k 0 = nI 9 ∧ j = k + 1))
def jz_fw (n : Nat) (R : Nat → Nat → Prop) (a b : Nat) : Prop := ∀ X : Nat → Prop, X a → (∀ x y, x < n → X x → R x y → X y) → X b
def jz_bw (n : Nat) (R : Nat → Nat → Prop) (b a : Nat) : Prop := ∀ X : Nat → Prop, X b → (∀ x y, x < n → R x y → X y → X x) → X a
theorem jz_fw_bw {n : Nat} {R : Nat → Nat → Prop} {a b : Nat} : jz_fw n R a b ↔ jz_bw n R b a := by
  constructor
  · intro h
    exact h (fun y => jz_bw n R y a) (fun X h1 _ => h1) (fun x y hx h1 hr X h2 h3 => h1 X (h3 x y hx hr h2) h3)
  · intro h
    exact h (fun y => jz_fw n R y b) (fun X h1 _ => h1) (fun x y hx hr h1 X h2 h3 => h1 X (h3 x y hx h2 hr) h3)
def jz_ca (n : Nat) (O : Nat → Nat → Int32) (m e : Nat) : Prop := e < n ∧ ((O m 0 = nI 5 ∧ O m 4 = nI e) ∨ (¬ O m 0 = nI 5 ∧ jz_tf n O m e))
def jz_ba (n : Nat) (O : Nat → Nat → Int32) (k j : Nat) : Prop := ∃ m, m + 1 < n ∧ jz_pu O m ∧ j = m + 1 ∧ ∃ e, jz_ca n O m e ∧ jz_fw n (jz_wi n O) e k
def jz_fl (n : Nat) (O : Nat → Nat → Int32) (k j : Nat) : Prop := (O k 0 = nI 7 ∧ jz_ba n O k j) ∨ (¬ O k 0 = nI 7 ∧ jz_tf n O k j)
def jz_b (v : Int32) (p : Prop) : Prop := (p ∧ v = nI 1) ∨ (¬ p ∧ v = nI 0)
theorem jz_b.eq0 {v : Int32} {p : Prop} (h : jz_b v p) : v = 0 ↔ ¬ p := by
  rcases h with ⟨h1, h2⟩ | ⟨h1, h2⟩
  · rw [h2]; exact ⟨fun z => absurd z (by decide), fun z => absurd h1 z⟩
  · rw [h2]; exact ⟨fun _ => h1, fun _ => rfl⟩
theorem jz_b.gz {α : Type} {v : Int32} {p : Prop} {k : Option α} (h : jz_b v p) : jx_gz v k = k := by
  rcases h with ⟨-, h2⟩ | ⟨-, h2⟩
  · rw [h2]; exact if_pos (Or.inr rfl)
  · rw [h2]; exact if_pos (Or.inl rfl)
theorem jz_b.congr {v : Int32} {p q : Prop} (h : jz_b v p) (e : p ↔ q) : jz_b v q := by
  rcases h with ⟨h1, h2⟩ | ⟨h1, h2⟩
  · exact Or.inl ⟨e.mp h1, h2⟩
  · exact Or.inr ⟨fun z => h1 (e.mpr z), h2⟩
theorem jz_b.uniq {v w : Int32} {p : Prop} (h : jz_b v p) (k : jz_b w p) : v = w := by
  rcases h with ⟨h1, h2⟩ | ⟨h1, h2⟩ <;> rcases k with ⟨k1, k2⟩ | ⟨k1, k2⟩
  · rw [h2, k2]
  · exact absurd h1 k1
  · exact absurd k1 h1
  · rw [h2, k2]
/-! rounds over the orders: one slice of cells -/
def jz_sp (B : Nat → Nat → Prop) (C : Nat → Nat → Nat → Prop) (k : Nat) (X : Nat → Prop) : Nat → Prop := fun c => X c ∨ B k c ∨ ∃ d, C k c d ∧ X d
def jz_pr (B : Nat → Nat → Prop) (C : Nat → Nat → Nat → Prop) : Nat → (Nat → Prop) → Nat → Prop
  | 0, X => X
  | i + 1, X => jz_sp B C i (jz_pr B C i X)
def jz_it (n : Nat) (B : Nat → Nat → Prop) (C : Nat → Nat → Nat → Prop) (X0 : Nat → Prop) : Nat → Nat → Prop
  | 0 => X0
  | r + 1 => jz_pr B C n (jz_it n B C X0 r)
theorem jz_pr_up {B : Nat → Nat → Prop} {C : Nat → Nat → Nat → Prop} {X : Nat → Prop} : ∀ (i : Nat) {c : Nat}, X c → jz_pr B C i X c
  | 0, _, h => h
  | i + 1, _, h => Or.inl (jz_pr_up i h)
theorem jz_pr_le {B : Nat → Nat → Prop} {C : Nat → Nat → Nat → Prop} {X : Nat → Prop} {i : Nat} : ∀ (j : Nat) {c : Nat}, jz_pr B C i X c → jz_pr B C (i + j) X c
  | 0, _, h => h
  | j + 1, _, h => Or.inl (jz_pr_le j h)
theorem jz_pr_cong {B : Nat → Nat → Prop} {C : Nat → Nat → Nat → Prop} {X Y : Nat → Prop} {N : Nat} (hC : ∀ k c d, C k c d → c < N ∧ d < N) (h : ∀ c, c < N → (X c ↔ Y c)) : ∀ (i : Nat) (c : Nat), c < N → (jz_pr B C i X c ↔ jz_pr B C i Y c)
  | 0, c, hc => h c hc
  | i + 1, c, hc => by
    have ih := jz_pr_cong (B := B) hC h i
    show (_ ∨ _ ∨ _) ↔ (_ ∨ _ ∨ _)
    rw [ih c hc]
    constructor
    · rintro (h1 | h1 | ⟨d, h1, h2⟩)
      · exact Or.inl h1
      · exact Or.inr (Or.inl h1)
      · exact Or.inr (Or.inr ⟨d, h1, (ih d (hC _ _ _ h1).2).mp h2⟩)
    · rintro (h1 | h1 | ⟨d, h1, h2⟩)
      · exact Or.inl h1
      · exact Or.inr (Or.inl h1)
      · exact Or.inr (Or.inr ⟨d, h1, (ih d (hC _ _ _ h1).2).mpr h2⟩)
theorem jz_pr_lo {B : Nat → Nat → Prop} {C : Nat → Nat → Nat → Prop} {n : Nat} {X : Nat → Prop} (hX : ∀ c, X c → jz_l n B C c) : ∀ (i : Nat), i ≤ n → ∀ c, jz_pr B C i X c → jz_l n B C c
  | 0, _, c, h => hX c h
  | i + 1, hi, c, h => by
    have ih := jz_pr_lo hX i (by omega)
    rcases h with h1 | h1 | ⟨d, h1, h2⟩
    · exact ih c h1
    · exact fun Y y1 y2 => y1 i (by omega) c h1
    · exact fun Y y1 y2 => y2 i (by omega) c d h1 (ih d h2 Y y1 y2)
theorem jz_it_lo {B : Nat → Nat → Prop} {C : Nat → Nat → Nat → Prop} {n : Nat} {X0 : Nat → Prop} (h0 : ∀ c, X0 c → jz_l n B C c) : ∀ (r c : Nat), jz_it n B C X0 r c → jz_l n B C c
  | 0, c, h => h0 c h
  | r + 1, c, h => jz_pr_lo (jz_it_lo h0 r) n (Nat.le_refl n) c h
/-- at rest: closed -/
theorem jz_it_cl {B : Nat → Nat → Prop} {C : Nat → Nat → Nat → Prop} {n N r : Nat} {X0 : Nat → Prop} (h0 : ∀ c, X0 c → jz_l n B C c) (hB : ∀ k c, B k c → c < N) (hC : ∀ k c d, C k c d → c < N ∧ d < N) (h : ∀ c, c < N → (jz_it n B C X0 (r + 1) c → jz_it n B C X0 r c)) : ∀ c, c < N → (jz_it n B C X0 r c ↔ jz_l n B C c) := by
  intro c hc
  refine ⟨jz_it_lo h0 r c, fun hl => ?_⟩
  have hl2 := hl (fun c => c < N ∧ jz_it n B C X0 r c) ?_ ?_
  · exact hl2.2
  · intro k hk c hb
    refine ⟨hB k c hb, h c (hB k c hb) ?_⟩
    have h3 : jz_pr B C (k + 1) (jz_it n B C X0 r) c := Or.inr (Or.inl hb)
    have h4 := jz_pr_le (n - (k + 1)) h3
    rw [show k + 1 + (n - (k + 1)) = n by omega] at h4
    exact h4
  · intro k hk c d hcd hd
    refine ⟨(hC k c d hcd).1, h c (hC k c d hcd).1 ?_⟩
    have h3 : jz_pr B C (k + 1) (jz_it n B C X0 r) c := Or.inr (Or.inr ⟨d, hcd, jz_pr_up k hd.2⟩)
    have h4 := jz_pr_le (n - (k + 1)) h3
    rw [show k + 1 + (n - (k + 1)) = n by omega] at h4
    exact h4
noncomputable def jd (p : Prop) : Bool := @decide p (Classical.propDecidable p)
theorem jd_t {p : Prop} : jd p = true ↔ p := @decide_eq_true_iff p (Classical.propDecidable p)
theorem jd_e {p q : Prop} : jd p = jd q ↔ (p ↔ q) := by
  constructor
  · intro h
    rw [← jd_t (p := p), h, jd_t]
  · intro h
    have : p = q := propext h
    rw [this]
theorem jz_it_rest {B : Nat → Nat → Prop} {C : Nat → Nat → Nat → Prop} {n N : Nat} {X0 : Nat → Prop} (hC : ∀ k c d, C k c d → c < N ∧ d < N) : ∀ r, N ≤ r → ∀ c, c < N → (jz_it n B C X0 (r + 1) c → jz_it n B C X0 r c) := by
  intro r hr c hc h
  have key := jcn_rest (f := fun r c => jd (jz_it n B C X0 r c)) (N := N) (fun r k _ hk => jd_t.mpr (jz_pr_up n (jd_t.mp hk))) (fun r h1 k hk => by
      have h2 : ∀ c, c < N → (jz_it n B C X0 r c ↔ jz_it n B C X0 (r + 1) c) := fun c hc => jd_e.mp (h1 c hc)
      exact jd_e.mpr (jz_pr_cong (B := B) hC h2 n k hk)) r (by omega) c hc
  exact (jd_e.mp key).mpr h
theorem jz_it_l {B : Nat → Nat → Prop} {C : Nat → Nat → Nat → Prop} {n N r : Nat} {X0 : Nat → Prop} (h0 : ∀ c, X0 c → jz_l n B C c) (hB : ∀ k c, B k c → c < N) (hC : ∀ k c d, C k c d → c < N ∧ d < N) (hr : N ≤ r) : ∀ c, c < N → (jz_it n B C X0 r c ↔ jz_l n B C c) := jz_it_cl h0 hB hC (jz_it_rest hC r hr)
theorem jz_pt_16 {O : Nat → Nat → Int32} {p : Nat} : ∀ k c, jz_pt O p k c → c < 16 := fun _ _ h => h.2.2.2
theorem jz_so_16 {O : Nat → Nat → Int32} : ∀ k c, jz_so O k c → c < 16 := fun _ _ h => h.2.2.2
theorem jz_cp_16 {O : Nat → Nat → Int32} : ∀ k c d, jz_cp O k c d → c < 16 ∧ d < 16 := fun _ _ _ h => h.2.2.2.2
/-- cells and odd ones behind r rounds and i orders -/
def jz_HS (n : Nat) (O : Nat → Nat → Int32) (r i : Nat) (ho : Nat → Int64) (od : Nat → Prop) : Prop := ∀ c, c < 16 → (∀ p, p < 64 → (jb (ho c) p = true ↔ jz_pr (jz_pt O p) (jz_cp O) i (jz_it n (jz_pt O p) (jz_cp O) (fun _ => False) r) c)) ∧ (od c ↔ jz_pr (jz_so O) (jz_cp O) i (jz_it n (jz_so O) (jz_cp O) (fun _ => False) r) c)
theorem jz_HS_no {n : Nat} {O : Nat → Nat → Int32} {r i : Nat} {ho : Nat → Int64} {od : Nat → Prop} (h : jz_HS n O r i ho od) (h0 : ¬ O i 0 = nI 0) (h1 : ¬ O i 0 = nI 1) : jz_HS n O r (i + 1) ho od := by
  intro c hc
  obtain ⟨a, b⟩ := h c hc
  refine ⟨fun p hp => (a p hp).trans ?_, b.trans ?_⟩
  · exact ⟨Or.inl, fun z => by rcases z with z | z | ⟨d, z, -⟩; exact z; exact absurd z.1 h1; exact absurd z.1 h0⟩
  · exact ⟨Or.inl, fun z => by rcases z with z | z | ⟨d, z, -⟩; exact z; exact absurd z.1 h0; exact absurd z.1 h0⟩
theorem jz_HS_pt {n : Nat} {O : Nat → Nat → Int32} {r i c0 p0 : Nat} {ho : Nat → Int64} {od : Nat → Prop} {x : Int64} (h : jz_HS n O r i ho od) (h0 : O i 0 = nI 1) (h5 : O i 5 = nI c0) (hc0 : c0 < 16) (h4 : O i 4 = nI p0) (hp0 : p0 < 40) (hx : js x (fun k => k = p0)) : jz_HS n O r (i + 1) (vp_updL ho c0 (ho c0 ||| x)) od := by
  have hn0 : ¬ O i 0 = nI 0 := by rw [h0]; decide
  intro c hc
  obtain ⟨a, b⟩ := h c hc
  refine ⟨fun p hp => ?_, b.trans ⟨Or.inl, fun z => ?_⟩⟩
  · by_cases e : c = c0
    · subst e
      rw [pk_uLs, jb_or, Bool.or_eq_true, a p hp, hx p hp]
      constructor
      · rintro (z | z)
        · exact Or.inl z
        · subst z; exact Or.inr (Or.inl ⟨h0, h5, h4, hc⟩)
      · rintro (z | z | ⟨d, z, -⟩)
        · exact Or.inl z
        · exact Or.inr ((nI_eq (by omega) (by omega)).mp (z.2.2.1.symm.trans h4))
        · exact absurd z.1 hn0
    · rw [pk_uLn e, a p hp]
      constructor
      · exact Or.inl
      · rintro (z | z | ⟨d, z, -⟩)
        · exact z
        · exact absurd ((nI_eq (by omega) (by omega)).mp (z.2.1.symm.trans h5)) e
        · exact absurd z.1 hn0
  · rcases z with z | z | ⟨d, z, -⟩
    · exact z
    · exact absurd z.1 hn0
    · exact absurd z.1 hn0
theorem jz_HS_od {n : Nat} {O : Nat → Nat → Int32} {r i c0 : Nat} {ho : Nat → Int64} {od od' : Nat → Prop} (h : jz_HS n O r i ho od) (h0 : O i 0 = nI 0) (h5 : O i 5 = nI c0) (hc0 : c0 < 16) (hn : ¬ (O i 8 = 0 ∧ nI 1000 ≤ O i 6)) (hod : ∀ c, c < 16 → (od' c ↔ od c ∨ c = c0)) : jz_HS n O r (i + 1) ho od' := by
  have hn1 : ¬ O i 0 = nI 1 := by rw [h0]; decide
  have hcp : ∀ c d, ¬ jz_cp O i c d := fun c d z => hn ⟨z.2.1, by rw [z.2.2.2.1]; exact nI_le (by omega) (by have := z.2.2.2.2.2; omega)⟩
  intro c hc
  obtain ⟨a, b⟩ := h c hc
  refine ⟨fun p hp => (a p hp).trans ⟨Or.inl, fun z => ?_⟩, (hod c hc).trans ?_⟩
  · rcases z with z | z | ⟨d, z, -⟩
    · exact z
    · exact absurd z.1 hn1
    · exact absurd z (hcp c d)
  · rw [b]
    constructor
    · rintro (z | z)
      · exact Or.inl z
      · subst z; exact Or.inr (Or.inl ⟨h0, h5, hn, hc⟩)
    · rintro (z | z | ⟨d, z, -⟩)
      · exact Or.inl z
      · exact Or.inr ((nI_eq (by omega) (by omega)).mp (z.2.1.symm.trans h5))
      · exact absurd z (hcp c d)
theorem jz_HS_cp {n : Nat} {O : Nat → Nat → Int32} {r i c0 d0 : Nat} {ho : Nat → Int64} {od od' : Nat → Prop} (h : jz_HS n O r i ho od) (h0 : O i 0 = nI 0) (h8 : O i 8 = 0) (h5 : O i 5 = nI c0) (hc0 : c0 < 16) (h6 : O i 6 = nI (1000 + d0)) (hd0 : d0 < 16) (hod : ∀ c, c < 16 → (od' c ↔ od c ∨ (c = c0 ∧ od d0))) : jz_HS n O r (i + 1) (vp_updL ho c0 (ho c0 ||| ho d0)) od' := by
  have hn1 : ¬ O i 0 = nI 1 := by rw [h0]; decide
  have hso : ∀ c, ¬ jz_so O i c := fun c z => z.2.2.1 ⟨h8, by rw [h6]; exact nI_le (by omega) (by omega)⟩
  have hcp : ∀ c d, jz_cp O i c d ↔ c = c0 ∧ d = d0 := fun c d => by
    constructor
    · intro z
      have z6 := z.2.2.2.2
      have z1 := (nI_eq (by omega) (by omega)).mp (z.2.2.1.symm.trans h5)
      have z2 := (nI_eq (by omega) (by omega)).mp (z.2.2.2.1.symm.trans h6)
      omega
    · rintro ⟨rfl, rfl⟩; exact ⟨h0, h8, h5, h6, hc0, hd0⟩
  intro c hc
  obtain ⟨a, b⟩ := h c hc
  obtain ⟨a0, b0⟩ := h d0 hd0
  refine ⟨fun p hp => ?_, (hod c hc).trans ?_⟩
  · by_cases e : c = c0
    · rw [e, pk_uLs, jb_or, Bool.or_eq_true, a0 p hp, ← e, a p hp]
      constructor
      · rintro (z | z)
        · exact Or.inl z
        · exact Or.inr (Or.inr ⟨d0, (hcp c d0).mpr ⟨e, rfl⟩, z⟩)
      · rintro (z | z | ⟨d, z, z2⟩)
        · exact Or.inl z
        · exact absurd z.1 hn1
        · rw [((hcp c d).mp z).2] at z2; exact Or.inr z2
    · rw [pk_uLn e, a p hp]
      constructor
      · exact Or.inl
      · rintro (z | z | ⟨d, z, -⟩)
        · exact z
        · exact absurd z.1 hn1
        · exact absurd ((hcp c d).mp z).1 e
  · rw [b, b0]
    constructor
    · rintro (z | ⟨z, z2⟩)
      · exact Or.inl z
      · exact Or.inr (Or.inr ⟨d0, (hcp c d0).mpr ⟨z, rfl⟩, z2⟩)
    · rintro (z | z | ⟨d, z, z2⟩)
      · exact Or.inl z
      · exact absurd z (hso c)
      · have z3 := (hcp c d).mp z
        rw [z3.2] at z2
        exact Or.inr ⟨z3.1, z2⟩
theorem jz_HS_0 {n : Nat} {O : Nat → Nat → Int32} {ho : Nat → Int64} {od : Nat → Prop} (h : ∀ c, c < 16 → ho c = lN 0 ∧ ¬ od c) : jz_HS n O 0 0 ho od := fun c hc => ⟨fun p _ => by rw [(h c hc).1, jb_0]; exact ⟨fun z => (by cases z), False.elim⟩, ⟨fun z => absurd z (h c hc).2, False.elim⟩⟩
theorem jz_HS_nx {n : Nat} {O : Nat → Nat → Int32} {r : Nat} {ho : Nat → Int64} {od : Nat → Prop} (h : jz_HS n O r n ho od) : jz_HS n O (r + 1) 0 ho od := h
theorem jz_HS_end {n : Nat} {O : Nat → Nat → Int32} {r : Nat} {ho : Nat → Int64} {od : Nat → Prop} (hr : 16 ≤ r) (h : jz_HS n O r 0 ho od) : ∀ c, c < 16 → js (ho c) (jz_ho n O c) ∧ (od c ↔ jz_od n O c) := fun c hc => ⟨fun p hp => ((h c hc).1 p hp).trans (jz_it_l (fun _ z => z.elim) jz_pt_16 jz_cp_16 hr c hc), (h c hc).2.trans (jz_it_l (fun _ z => z.elim) jz_so_16 jz_cp_16 hr c hc)⟩
theorem jz_HS_same {n : Nat} {O : Nat → Nat → Int32} {r : Nat} {ho : Nat → Int64} {od : Nat → Prop} (h : jz_HS n O r 0 ho od) (h2 : jz_HS n O (r + 1) 0 ho od) : ∀ c, c < 16 → js (ho c) (jz_ho n O c) ∧ (od c ↔ jz_od n O c) := fun c hc =>
  ⟨fun p hp => ((h c hc).1 p hp).trans (jz_it_cl (fun _ z => z.elim) jz_pt_16 jz_cp_16 (fun c hc z => ((h c hc).1 p hp).mp (((h2 c hc).1 p hp).mpr z)) c hc), (h c hc).2.trans (jz_it_cl (fun _ z => z.elim) jz_so_16 jz_cp_16 (fun c hc z => (h c hc).2.mp ((h2 c hc).2.mpr z)) c hc)⟩
