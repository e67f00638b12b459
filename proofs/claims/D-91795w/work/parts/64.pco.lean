/-! the component: what its small functions answer; what cells may hold -/
set_option maxRecDepth 100000
def jf_k (Is Js As Ls : List (Nat × Nat)) (S S' : jf_S) : Prop := (∀ p k, (p, k) ∉ Is → S'.1 p k = S.1 p k) ∧ (∀ p k, (p, k) ∉ Js → S'.2.1 p k = S.2.1 p k) ∧ (∀ p k, (p, k) ∉ As → S'.2.2.1 p k = S.2.2.1 p k) ∧ (∀ p k, (p, k) ∉ Ls → S'.2.2.2.1 p k = S.2.2.2.1 p k) ∧ S'.2.2.2.2 = S.2.2.2.2
theorem jf_k.rf {Is Js As Ls : List (Nat × Nat)} {S : jf_S} : jf_k Is Js As Ls S S := ⟨fun _ _ _ => rfl, fun _ _ _ => rfl, fun _ _ _ => rfl, fun _ _ _ => rfl, rfl⟩
theorem jf_k.trans {Is Js As Ls : List (Nat × Nat)} {S S1 S2 : jf_S} (h : jf_k Is Js As Ls S S1) (k : jf_k Is Js As Ls S1 S2) : jf_k Is Js As Ls S S2 := ⟨fun p i hi => (k.1 p i hi).trans (h.1 p i hi), fun p i hi => (k.2.1 p i hi).trans (h.2.1 p i hi), fun p i hi => (k.2.2.1 p i hi).trans (h.2.2.1 p i hi), fun p i hi => (k.2.2.2.1 p i hi).trans (h.2.2.2.1 p i hi), k.2.2.2.2.trans h.2.2.2.2⟩
theorem jf_k.wd {Is Js As Ls Is' Js' As' Ls' : List (Nat × Nat)} {S S1 : jf_S} (h : jf_k Is Js As Ls S S1) (h1 : ∀ i ∈ Is, i ∈ Is') (h2 : ∀ i ∈ Js, i ∈ Js') (h3 : ∀ i ∈ As, i ∈ As') (h4 : ∀ i ∈ Ls, i ∈ Ls') : jf_k Is' Js' As' Ls' S S1 := ⟨fun p i hi => h.1 p i (fun z => hi (h1 _ z)), fun p i hi => h.2.1 p i (fun z => hi (h2 _ z)), fun p i hi => h.2.2.1 p i (fun z => hi (h3 _ z)), fun p i hi => h.2.2.2.1 p i (fun z => hi (h4 _ z)), h.2.2.2.2⟩
theorem jf_if2 {α : Type} {p o j k : Nat} {a b : α} (h : ¬ (p = o ∧ j = k)) : (if p = o then (if j = k then a else b) else b) = b := by
  by_cases h1 : p = o
  · rw [if_pos h1, if_neg (fun z => h ⟨h1, z⟩)]
  · rw [if_neg h1]
theorem jf_if1 {α : Type} {o k : Nat} {a b : α} : (if o = o then (if k = k then a else b) else b) = a := by rw [if_pos rfl, if_pos rfl]
theorem jf_Ie {S : jf_S} {o k : Nat} {v : Int32} : (jf_setI S o k v).1 o k = v := jf_if1
theorem jf_In {S : jf_S} {o k p j : Nat} {v : Int32} (h : ¬ (p = o ∧ j = k)) : (jf_setI S o k v).1 p j = S.1 p j := jf_if2 h
theorem jf_I2 {S : jf_S} {o k : Nat} {v : Int32} : (jf_setI S o k v).2 = S.2 := Eq.trans rfl rfl
theorem jf_Je {S : jf_S} {o k : Nat} {v : Int64} : (jf_setJ S o k v).2.1 o k = v := jf_if1
theorem jf_Jn {S : jf_S} {o k p j : Nat} {v : Int64} (h : ¬ (p = o ∧ j = k)) : (jf_setJ S o k v).2.1 p j = S.2.1 p j := jf_if2 h
theorem jf_J0 {S : jf_S} {o k : Nat} {v : Int64} : (jf_setJ S o k v).1 = S.1 := Eq.trans rfl rfl
theorem jf_J2 {S : jf_S} {o k : Nat} {v : Int64} : (jf_setJ S o k v).2.2 = S.2.2 := Eq.trans rfl rfl
theorem jf_Ae {S : jf_S} {o k : Nat} {f : Nat → Int32} : (jf_setA S o k f).2.2.1 o k = f := jf_if1
theorem jf_An {S : jf_S} {o k p j : Nat} {f : Nat → Int32} (h : ¬ (p = o ∧ j = k)) : (jf_setA S o k f).2.2.1 p j = S.2.2.1 p j := jf_if2 h
theorem jf_A0 {S : jf_S} {o k : Nat} {f : Nat → Int32} : (jf_setA S o k f).1 = S.1 := Eq.trans rfl rfl
theorem jf_A1 {S : jf_S} {o k : Nat} {f : Nat → Int32} : (jf_setA S o k f).2.1 = S.2.1 := Eq.trans rfl rfl
theorem jf_A3 {S : jf_S} {o k : Nat} {f : Nat → Int32} : (jf_setA S o k f).2.2.2 = S.2.2.2 := Eq.trans rfl rfl
theorem jf_Le {S : jf_S} {o k : Nat} {f : Nat → Int64} : (jf_setL S o k f).2.2.2.1 o k = f := jf_if1
theorem jf_Ln {S : jf_S} {o k p j : Nat} {f : Nat → Int64} (h : ¬ (p = o ∧ j = k)) : (jf_setL S o k f).2.2.2.1 p j = S.2.2.2.1 p j := jf_if2 h
theorem jf_L0 {S : jf_S} {o k : Nat} {f : Nat → Int64} : (jf_setL S o k f).1 = S.1 := Eq.trans rfl rfl
theorem jf_L1 {S : jf_S} {o k : Nat} {f : Nat → Int64} : (jf_setL S o k f).2.1 = S.2.1 := Eq.trans rfl rfl
theorem jf_LA {S : jf_S} {o k : Nat} {f : Nat → Int64} : (jf_setL S o k f).2.2.1 = S.2.2.1 := Eq.trans rfl rfl
theorem jf_LO {S : jf_S} {o k : Nat} {f : Nat → Int64} : (jf_setL S o k f).2.2.2.2 = S.2.2.2.2 := Eq.trans rfl rfl
theorem jf_nmm {o k : Nat} {p j : Nat} {l : List (Nat × Nat)} (hm : (o, k) ∈ l) (h : (p, j) ∉ l) : ¬ (p = o ∧ j = k) := fun z => h (by rw [z.1, z.2]; exact hm)
theorem jf_k.setI {Is Js As Ls : List (Nat × Nat)} {S S1 : jf_S} {o k : Nat} {v : Int32} (h : jf_k Is Js As Ls S S1) (hk : (o, k) ∈ Is) : jf_k Is Js As Ls S (jf_setI S1 o k v) := ⟨fun p i hi => (jf_In (jf_nmm hk hi)).trans (h.1 p i hi), h.2.1, h.2.2.1, h.2.2.2.1, h.2.2.2.2⟩
theorem jf_k.setJ {Is Js As Ls : List (Nat × Nat)} {S S1 : jf_S} {o k : Nat} {v : Int64} (h : jf_k Is Js As Ls S S1) (hk : (o, k) ∈ Js) : jf_k Is Js As Ls S (jf_setJ S1 o k v) := ⟨h.1, fun p i hi => (jf_Jn (jf_nmm hk hi)).trans (h.2.1 p i hi), h.2.2.1, h.2.2.2.1, h.2.2.2.2⟩
theorem jf_k.setA {Is Js As Ls : List (Nat × Nat)} {S S1 : jf_S} {o k : Nat} {f : Nat → Int32} (h : jf_k Is Js As Ls S S1) (hk : (o, k) ∈ As) : jf_k Is Js As Ls S (jf_setA S1 o k f) := ⟨h.1, h.2.1, fun p i hi => (jf_An (jf_nmm hk hi)).trans (h.2.2.1 p i hi), h.2.2.2.1, h.2.2.2.2⟩
theorem jf_k.setL {Is Js As Ls : List (Nat × Nat)} {S S1 : jf_S} {o k : Nat} {f : Nat → Int64} (h : jf_k Is Js As Ls S S1) (hk : (o, k) ∈ Ls) : jf_k Is Js As Ls S (jf_setL S1 o k f) := ⟨h.1, h.2.1, h.2.2.1, fun p i hi => (jf_Ln (jf_nmm hk hi)).trans (h.2.2.2.1 p i hi), h.2.2.2.2⟩
/-! orders by their records -/
theorem jz_10 {wd : Nat} (h : wd < 10) : wd = 0 ∨ wd = 1 ∨ wd = 2 ∨ wd = 3 ∨ wd = 4 ∨ wd = 5 ∨ wd = 6 ∨ wd = 7 ∨ wd = 8 ∨ wd = 9 := by omega
theorem jv_word_eq {F : Nat} {r : jo_R} {S : jf_S} (h : ∃ wd : Nat, wd < 10 ∧ r 0 = nI wd) : jv_word F r S = some (r 0, S) := by
  obtain ⟨wd, h, e⟩ := h
  unfold jv_word
  rw [e]
  rcases jz_10 h with rfl | rfl | rfl | rfl | rfl | rfl | rfl | rfl | rfl | rfl <;> rfl
theorem jv_isJump_eq {F : Nat} {r : jo_R} {S : jf_S} (h : ∃ wd : Nat, wd < 10 ∧ r 0 = nI wd) : jv_isJump F r S = some (jt (r 0 = nI 4 ∨ r 0 = nI 6 ∨ r 0 = nI 7), S) := by
  obtain ⟨wd, h, e⟩ := h
  unfold jv_isJump
  rw [e]
  rcases jz_10 h with rfl | rfl | rfl | rfl | rfl | rfl | rfl | rfl | rfl | rfl <;> first | (rw [jt_p (by decide)]; rfl) | (rw [jt_n (by decide)]; rfl)
theorem jv_puts_eq {F : Nat} {r : jo_R} {S : jf_S} (h : ∃ wd : Nat, wd < 10 ∧ r 0 = nI wd) : jv_puts F r S = some (jt (r 0 = nI 5 ∨ r 0 = nI 6), S) := by
  obtain ⟨wd, h, e⟩ := h
  unfold jv_puts
  rw [e]
  rcases jz_10 h with rfl | rfl | rfl | rfl | rfl | rfl | rfl | rfl | rfl | rfl <;> first | (rw [jt_p (by decide)]; rfl) | (rw [jt_n (by decide)]; rfl)
theorem jv_cell_eq {F : Nat} {r : jo_R} {S : jf_S} (h : ∃ wd : Nat, wd < 10 ∧ r 0 = nI wd) : jv_cell F r S = some (if r 0 = nI 4 ∨ r 0 = nI 6 then r 5 else (-1 : Int32), S) := by
  obtain ⟨wd, h, e⟩ := h
  unfold jv_cell
  rw [e]
  rcases jz_10 h with rfl | rfl | rfl | rfl | rfl | rfl | rfl | rfl | rfl | rfl <;> first | (rw [if_pos (show _ by decide)]; rfl) | (rw [if_neg (show ¬ _ by decide)]; rfl) | rfl
theorem jv_kind_eq {F : Nat} {r : jo_R} {S : jf_S} (h : r 0 = nI 4 ∨ r 0 = nI 6) : jv_kind F r S = some (r 3, S) := by
  unfold jv_kind
  rcases h with h | h <;> rw [h] <;> rfl
theorem jv_kind_ex {F : Nat} {r : jo_R} {S : jf_S} (h : ∃ wd : Nat, wd < 10 ∧ r 0 = nI wd) : ∃ v, jv_kind F r S = some (v, S) := by
  obtain ⟨wd, h, e⟩ := h
  unfold jv_kind
  rw [e]
  rcases jz_10 h with rfl | rfl | rfl | rfl | rfl | rfl | rfl | rfl | rfl | rfl <;> exact ⟨_, rfl⟩
theorem jv_place_eq {F : Nat} {r : jo_R} {S : jf_S} (h : r 0 = nI 1 ∨ r 0 = nI 2 ∨ r 0 = nI 3 ∨ r 0 = nI 5) : jv_place F r S = some (r 4, S) := by
  unfold jv_place
  rcases h with h | h | h | h <;> rw [h] <;> rfl
theorem jf_bit_eq {k : Nat} (hk : k < 40) : jf_bit (nI k) = some (lN 1 <<< ((nI k).toInt64 &&& 63)) := by
  unfold jf_bit
  rw [if_neg (nI_pos (by omega)), if_pos (nI_lt hk (by decide))]
theorem jf_bit_40 : jf_bit (nI 40) = some (lN 0) := by
  unfold jf_bit
  rw [if_neg (nI_pos (by omega)), if_neg (nI_nlt (Nat.le_refl _) (by decide))]
/-- bit(k) for k up to 40, as a set below n -/
theorem jf_bit_js {k : Nat} (hk : k ≤ 40) : ∃ v, jf_bit (nI k) = some v ∧ js v (fun j => j = k ∧ k < 40) := by
  rcases Nat.lt_or_ge k 40 with h | h
  · exact ⟨_, jf_bit_eq h, js_congr (js_sh (by omega)) (fun j _ => ⟨fun z => ⟨z, h⟩, fun z => z.1⟩)⟩
  · have e : k = 40 := by omega
    subst e
    exact ⟨_, jf_bit_40, js_congr js_0 (fun j _ => ⟨False.elim, fun z => absurd z.2 (by omega)⟩)⟩
/-- the orders of the program o -/
def jp_R (o : Nat) (S : jf_S) (w : Nat → Int32) (n : Nat) : Prop := S.1 o 13 = nI n ∧ ∀ k, k < n → ∃ r : jo_R, S.2.2.2.2 o k = some r ∧ ∀ c, c < 9 → c ≠ 2 → r c = jz_O w k c
theorem jp_R.k {o n : Nat} {S S' : jf_S} {w : Nat → Int32} (h : jp_R o S w n) (h1 : S'.1 o 13 = S.1 o 13) (h2 : S'.2.2.2.2 = S.2.2.2.2) : jp_R o S' w n := by
  refine ⟨h1.trans h.1, ?_⟩
  rw [h2]
  exact h.2
theorem jb_ne_or {x y : Int64} (h : ¬ x = x ||| y) : ∃ p, p < 64 ∧ jb x p = false ∧ jb (x ||| y) p = true := by
  refine Classical.byContradiction fun hno => h (jb_ext fun p hp => ?_)
  have h1 : ¬ (jb x p = false ∧ jb (x ||| y) p = true) := fun z => hno ⟨p, hp, z⟩
  rw [jb_or] at h1 ⊢
  revert h1
  cases jb x p <;> cases jb y p <;> simp
theorem jb3_ne_or {x y : Int32} (h : ¬ x = x ||| y) : ∃ p, p < 32 ∧ jb3 x p = false ∧ jb3 (x ||| y) p = true := by
  refine Classical.byContradiction fun hno => h (jb3_ext fun p hp => ?_)
  have h1 : ¬ (jb3 x p = false ∧ jb3 (x ||| y) p = true) := fun z => hno ⟨p, hp, z⟩
  rw [jb3_or] at h1 ⊢
  revert h1
  cases jb3 x p <;> cases jb3 y p <;> simp
theorem jz_upd_same {f : Nat → Int64} {c : Nat} {v : Int64} (h : f c = v) : vp_updL f c v = f := by
  funext j
  by_cases e : j = c
  · rw [e, pk_uLs, h]
  · rw [pk_uLn e]
/-- what one order does to what cells may hold -/
def jp_ch (ho ho' : Nat → Int64) (od od' : Int32) : Prop := (∃ c p, c < 16 ∧ p < 64 ∧ jb (ho c) p = false ∧ jb (ho' c) p = true) ∨ ∃ c, c < 16 ∧ jb3 od c = false ∧ jb3 od' c = true
theorem jp_moves_sp {F o n q i : Nat} {O : Nat → Nat → Int32} {r : jo_R} {s : jf_S} (hr : ∀ c, c < 9 → c ≠ 2 → r c = O i c) (ho : jz_or (O i)) (hh : jz_HS n O q i (s.2.2.2.1 o 9) (fun c => jb3 (s.1 o 17) c = true)) (hod : ∀ c, 16 ≤ c → jb3 (s.1 o 17) c = false) :
    jw (jp_moves F o r s) (fun a => jf_k [(o, 17)] [] [] [(o, 9)] s a.2 ∧ jz_HS n O q (i + 1) (a.2.2.2.2.1 o 9) (fun c => jb3 (a.2.1 o 17) c = true) ∧ (∀ c, 16 ≤ c → jb3 (a.2.1 o 17) c = false) ∧ ((a.1 = nI 0 ∧ a.2.2.2.2.1 o 9 = s.2.2.2.1 o 9 ∧ a.2.1 o 17 = s.1 o 17) ∨ (a.1 = nI 1 ∧ jp_ch (s.2.2.2.1 o 9) (a.2.2.2.2.1 o 9) (s.1 o 17) (a.2.1 o 17)))) := by
  have r0 := hr 0 (by decide) (by decide)
  have r4 := hr 4 (by decide) (by decide)
  have r5 := hr 5 (by decide) (by decide)
  have r6 := hr 6 (by decide) (by decide)
  have r8 := hr 8 (by decide) (by decide)
  obtain ⟨wd, hwd, e0⟩ := ho.wd
  obtain ⟨c, hc, e5⟩ := ho.ce
  have hw : ∃ wd : Nat, wd < 10 ∧ r 0 = nI wd := ⟨wd, hwd, r0.trans e0⟩
  unfold jp_moves
  simp only [jv_word_eq hw, Option.bind_some, r0, r4, r5]
  by_cases w1 : O i 0 = nI 1
  · obtain ⟨p, hp, e4⟩ := ho.pl (Or.inl w1)
    rw [if_pos w1]
    simp only [jx_ge, if_pos w1, e5, e4, jx_ga_nI hc (show 16 < 2 ^ 31 by decide), jx_nx, jf_bit_eq hp, Option.bind_some, jf_Le, pk_uLs, jc_0]
    by_cases hz : s.2.2.2.1 o 9 c = s.2.2.2.1 o 9 c ||| (lN 1 <<< ((nI p).toInt64 &&& 63))
    · rw [if_pos hz]
      refine jw_some ⟨jf_k.rf.setL (by simp), ?_, hod, Or.inl ⟨rfl, ?_, rfl⟩⟩
      · show jz_HS n O q (i + 1) ((jf_setL s o 9 _).2.2.2.1 o 9) _
        rw [jf_Le]
        exact jz_HS_pt hh w1 e5 hc e4 hp (js_sh (by omega))
      · show (jf_setL s o 9 _).2.2.2.1 o 9 = _
        rw [jf_Le]
        exact jz_upd_same hz
    · rw [if_neg hz]
      refine jw_some ⟨jf_k.rf.setL (by simp), ?_, hod, Or.inr ⟨rfl, Or.inl ?_⟩⟩
      · show jz_HS n O q (i + 1) ((jf_setL s o 9 _).2.2.2.1 o 9) _
        rw [jf_Le]
        exact jz_HS_pt hh w1 e5 hc e4 hp (js_sh (by omega))
      · obtain ⟨x, hx, h1, h2⟩ := jb_ne_or hz
        refine ⟨c, x, hc, hx, h1, ?_⟩
        show jb ((jf_setL s o 9 _).2.2.2.1 o 9 c) x = true
        rw [jf_Le, pk_uLs]
        exact h2
  · rw [if_neg w1]
    by_cases w0 : O i 0 = 0
    · obtain ⟨a, ha, e6⟩ := ho.a6 (Or.inl w0)
      rw [if_pos w0]
      simp only [jx_ge, if_pos (show O i 0 = nI 0 from w0), e5, jx_ga_nI hc (show 16 < 2 ^ 31 by decide), jx_nx]
      unfold jo9_only jp_moves_b164
      simp only [r8, r6, r5, e5, e6]
      have hbit : ∀ d, d < 32 → jb3 (nI 1 <<< (nI c &&& 31)) d = decide (d = c) := fun d hd => by
        rw [jb3_shl (show c < 32 by omega) _ hd, jb3_1]
        by_cases h : c ≤ d
        · by_cases h2 : d = c
          · simp [h, h2]
          · have : ¬ d - c = 0 := by omega
            simp [h, h2, this]
        · have : ¬ d = c := by omega
          simp [h, this]
      have hodd : ¬ (O i 8 = 0 ∧ nI 1000 ≤ O i 6) → jw (jp_moves_b164 F o r (s.2.2.2.1 o 9 c) (s.1 o 17) (jf_setI s o 17 (s.1 o 17 ||| nI 1 <<< (nI c &&& 31)))) (fun a => jf_k [(o, 17)] [] [] [(o, 9)] s a.2 ∧ jz_HS n O q (i + 1) (a.2.2.2.2.1 o 9) (fun c => jb3 (a.2.1 o 17) c = true) ∧ (∀ c, 16 ≤ c → jb3 (a.2.1 o 17) c = false) ∧ ((a.1 = nI 0 ∧ a.2.2.2.2.1 o 9 = s.2.2.2.1 o 9 ∧ a.2.1 o 17 = s.1 o 17) ∨ (a.1 = nI 1 ∧ jp_ch (s.2.2.2.1 o 9) (a.2.2.2.2.1 o 9) (s.1 o 17) (a.2.1 o 17)))) := by
        intro hno
        have h1 : jz_HS n O q (i + 1) (s.2.2.2.1 o 9) (fun d => jb3 (s.1 o 17 ||| nI 1 <<< (nI c &&& 31)) d = true) := by
          refine jz_HS_od hh w0 e5 hc hno (fun d hd => ?_)
          rw [jb3_or, hbit d (by omega)]
          simp
        have h2 : ∀ d, 16 ≤ d → jb3 (s.1 o 17 ||| nI 1 <<< (nI c &&& 31)) d = false := fun d hd => by
          rw [jb3_or, hod d hd]
          rcases Nat.lt_or_ge d 32 with h | h
          · rw [hbit d h]; simp; omega
          · rw [jb3_ge h]; rfl
        unfold jp_moves_b164
        simp only [r5, e5, jx_ga_nI hc (show 16 < 2 ^ 31 by decide), jf_I2, jf_Ie, jc_0, if_true]
        by_cases hz : s.1 o 17 = s.1 o 17 ||| nI 1 <<< (nI c &&& 31)
        · rw [if_pos hz]
          refine jw_some ⟨jf_k.rf.setI (by simp), ?_, ?_, Or.inl ⟨rfl, rfl, ?_⟩⟩
          · show jz_HS n O q (i + 1) (s.2.2.2.1 o 9) (fun d => jb3 ((jf_setI s o 17 _).1 o 17) d = true)
            rw [jf_Ie]; exact h1
          · show ∀ d, 16 ≤ d → jb3 ((jf_setI s o 17 _).1 o 17) d = false
            rw [jf_Ie]; exact h2
          · show (jf_setI s o 17 _).1 o 17 = s.1 o 17
            rw [jf_Ie]; exact hz.symm
        · rw [if_neg hz]
          refine jw_some ⟨jf_k.rf.setI (by simp), ?_, ?_, Or.inr ⟨rfl, Or.inr ?_⟩⟩
          · show jz_HS n O q (i + 1) (s.2.2.2.1 o 9) (fun d => jb3 ((jf_setI s o 17 _).1 o 17) d = true)
            rw [jf_Ie]; exact h1
          · show ∀ d, 16 ≤ d → jb3 ((jf_setI s o 17 _).1 o 17) d = false
            rw [jf_Ie]; exact h2
          · obtain ⟨x, hx, g1, g2⟩ := jb3_ne_or hz
            refine ⟨x, ?_, g1, ?_⟩
            · rcases Nat.lt_or_ge x 16 with h | h
              · exact h
              · rw [h2 x h] at g2; cases g2
            · show jb3 ((jf_setI s o 17 _).1 o 17) x = true
              rw [jf_Ie]; exact g2
      unfold jp_moves_b164 at hodd
      simp only [r5, e5] at hodd
      by_cases w8 : O i 8 = 0
      · simp only [if_pos w8]
        rcases Nat.lt_or_ge a 1000 with hlt | hge
        · have hac : jo_ac (nI a) = (-1 : Int32) := if_neg (nI_ge hlt (by decide))
          simp only [hac, Option.bind_some, if_true]
          exact hodd (fun z => absurd z.2 (by rw [e6]; exact nI_ge hlt (by decide)))
        · have hd : a - 1000 < 16 := by omega
          have hac : jo_ac (nI a) = nI (a - 1000) := (if_pos (nI_le hge (by omega))).trans (pk_sub hge)
          simp only [hac, Option.bind_some, if_neg (jn_m1 (show a - 1000 < 2 ^ 31 by omega)), jx_ga_nI hd (show 16 < 2 ^ 31 by decide), jf_Le, pk_uLs, jf_L0]
          have hbit2 : ∀ d, d < 32 → jb3 (((s.1 o 17 >>> (nI (a - 1000) &&& 31)) &&& nI 1) <<< (nI c &&& 31)) d = (decide (d = c) && jb3 (s.1 o 17) (a - 1000)) := fun d hd2 => by
            rw [jb3_shl (show c < 32 by omega) _ hd2, jb3_and, jb3_1]
            by_cases h : d = c
            · subst h
              simp [jb3_shr (s.1 o 17) (show a - 1000 < 32 by omega) (show a - 1000 + 0 < 32 by omega)]
            · by_cases h2 : c ≤ d
              · have : ¬ d - c = 0 := by omega
                simp [h, this]
              · simp [h, h2]
          have h1 : jz_HS n O q (i + 1) (vp_updL (s.2.2.2.1 o 9) c (s.2.2.2.1 o 9 c ||| s.2.2.2.1 o 9 (a - 1000))) (fun d => jb3 (s.1 o 17 ||| ((s.1 o 17 >>> (nI (a - 1000) &&& 31)) &&& nI 1) <<< (nI c &&& 31)) d = true) := by
            refine jz_HS_cp hh w0 w8 e5 hc (by rw [e6, show 1000 + (a - 1000) = a by omega]) hd (fun d hd2 => ?_)
            rw [jb3_or, hbit2 d (by omega)]
            simp
          have h2 : ∀ d, 16 ≤ d → jb3 (s.1 o 17 ||| ((s.1 o 17 >>> (nI (a - 1000) &&& 31)) &&& nI 1) <<< (nI c &&& 31)) d = false := fun d hd2 => by
            rw [jb3_or, hod d hd2]
            rcases Nat.lt_or_ge d 32 with h | h
            · rw [hbit2 d h]
              have : ¬ d = c := by omega
              simp [this]
            · rw [jb3_ge h]; rfl
          simp only [jf_I2, jf_Le, jf_Ie, pk_uLs, jc_0, jx_ga_nI hc (show 16 < 2 ^ 31 by decide)]
          have hfin : ∀ m : Int32, ((m = nI 0 ∧ vp_updL (s.2.2.2.1 o 9) c (s.2.2.2.1 o 9 c ||| s.2.2.2.1 o 9 (a - 1000)) = s.2.2.2.1 o 9 ∧ (s.1 o 17 ||| ((s.1 o 17 >>> (nI (a - 1000) &&& 31)) &&& nI 1) <<< (nI c &&& 31)) = s.1 o 17) ∨ (m = nI 1 ∧ jp_ch (s.2.2.2.1 o 9) (vp_updL (s.2.2.2.1 o 9) c (s.2.2.2.1 o 9 c ||| s.2.2.2.1 o 9 (a - 1000))) (s.1 o 17) (s.1 o 17 ||| ((s.1 o 17 >>> (nI (a - 1000) &&& 31)) &&& nI 1) <<< (nI c &&& 31)))) →
              jw (some (m, jf_setI (jf_setL s o 9 (vp_updL (s.2.2.2.1 o 9) c (s.2.2.2.1 o 9 c ||| s.2.2.2.1 o 9 (a - 1000)))) o 17 (s.1 o 17 ||| ((s.1 o 17 >>> (nI (a - 1000) &&& 31)) &&& nI 1) <<< (nI c &&& 31)))) (fun a => jf_k [(o, 17)] [] [] [(o, 9)] s a.2 ∧ jz_HS n O q (i + 1) (a.2.2.2.2.1 o 9) (fun c => jb3 (a.2.1 o 17) c = true) ∧ (∀ c, 16 ≤ c → jb3 (a.2.1 o 17) c = false) ∧ ((a.1 = nI 0 ∧ a.2.2.2.2.1 o 9 = s.2.2.2.1 o 9 ∧ a.2.1 o 17 = s.1 o 17) ∨ (a.1 = nI 1 ∧ jp_ch (s.2.2.2.1 o 9) (a.2.2.2.2.1 o 9) (s.1 o 17) (a.2.1 o 17)))) := by
            intro m hm
            refine jw_some ⟨(jf_k.rf.setL (by simp)).setI (by simp), ?_, ?_, ?_⟩
            · simp only [jf_I2, jf_Le, jf_Ie]; exact h1
            · simp only [jf_Ie]; exact h2
            · simp only [jf_I2, jf_Le, jf_Ie]; exact hm
          by_cases hz : s.2.2.2.1 o 9 c = s.2.2.2.1 o 9 c ||| s.2.2.2.1 o 9 (a - 1000)
          · rw [if_pos hz]
            by_cases hz2 : s.1 o 17 = s.1 o 17 ||| ((s.1 o 17 >>> (nI (a - 1000) &&& 31)) &&& nI 1) <<< (nI c &&& 31)
            · rw [if_pos hz2]
              exact hfin _ (Or.inl ⟨rfl, jz_upd_same hz, hz2.symm⟩)
            · rw [if_neg hz2]
              obtain ⟨x, hx, g1, g2⟩ := jb3_ne_or hz2
              refine hfin _ (Or.inr ⟨rfl, Or.inr ⟨x, ?_, g1, g2⟩⟩)
              rcases Nat.lt_or_ge x 16 with h | h
              · exact h
              · rw [h2 x h] at g2; cases g2
          · rw [if_neg hz]
            obtain ⟨x, hx, g1, g2⟩ := jb_ne_or hz
            exact hfin _ (Or.inr ⟨rfl, Or.inl ⟨c, x, hc, hx, g1, by rw [pk_uLs]; exact g2⟩⟩)
      · rw [if_neg w8]
        simp only [Option.bind_some, if_true]
        exact hodd (fun z => w8 z.1)
    · rw [if_neg w0]
      exact jw_some ⟨jf_k.rf, jz_HS_no hh w0 w1, hod, Or.inl ⟨rfl, rfl, rfl⟩⟩
