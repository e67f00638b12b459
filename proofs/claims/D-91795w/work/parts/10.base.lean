/-! common words: guards of the pure functions, loops, constants -/
def jx_ga {α : Type} (i : Int32) (n : Nat) (k : Nat → Option α) : Option α := if i < 0 ∨ n ≤ i.toNatClampNeg then none else k i.toNatClampNeg
theorem jx_ga_some {α : Type} {i : Int32} {n : Nat} {k : Nat → Option α} {r : α} (h : jx_ga i n k = some r) : ∃ j : Nat, j = i.toNatClampNeg ∧ vp_in i n ∧ k j = some r := by
  unfold jx_ga at h
  by_cases c : i < 0 ∨ n ≤ i.toNatClampNeg
  · rw [if_pos c] at h; cases h
  · rw [if_neg c] at h; exact ⟨_, rfl, c, h⟩
theorem jx_ga_in {α : Type} {i : Int32} {n : Nat} {k : Nat → Option α} (h : vp_in i n) : jx_ga i n k = k i.toNatClampNeg := if_neg h
theorem jx_ga_nI {α : Type} {m n : Nat} {k : Nat → Option α} (h : m < n) (hn : n < 2 ^ 31) : jx_ga (nI m) n k = k m := by
  rw [jx_ga_in (vp_in_nI h hn), nI_clamp (by omega)]
def jx_gz {α : Type} (x : Int32) (k : Option α) : Option α := if x = 0 ∨ x = 1 then k else none
theorem jx_gz_some {α : Type} {x : Int32} {k : Option α} {r : α} (h : jx_gz x k = some r) : (narrow .boolean (.int x) = .int x ∧ fits .boolean (.int x) = true) ∧ k = some r := by
  unfold jx_gz at h
  by_cases c : x = 0 ∨ x = 1
  · rw [if_pos c] at h
    refine ⟨?_, h⟩
    rcases c with c | c <;> rw [c] <;> exact ⟨rfl, rfl⟩
  · rw [if_neg c] at h; cases h
theorem jx_gz_0 {α : Type} {k : Option α} : jx_gz 0 k = k := if_pos (Or.inl rfl)
theorem jx_gz_1 {α : Type} {k : Option α} : jx_gz 1 k = k := if_pos (Or.inr rfl)
theorem jx_nz0 : narrow .boolean (.int (nI 0)) = .int (nI 0) ∧ fits .boolean (.int (nI 0)) = true := ⟨rfl, rfl⟩
theorem jx_nz1 : narrow .boolean (.int (nI 1)) = .int (nI 1) ∧ fits .boolean (.int (nI 1)) = true := ⟨rfl, rfl⟩
def jx_gn {α : Type} (x : Int32) (k : Option α) : Option α := if x = 0 then none else k
theorem jx_gn_some {α : Type} {x : Int32} {k : Option α} {r : α} (h : jx_gn x k = some r) : ¬ x = 0 ∧ k = some r := by
  unfold jx_gn at h
  by_cases c : x = 0
  · rw [if_pos c] at h; cases h
  · rw [if_neg c] at h; exact ⟨c, h⟩
def jx_nx {α β : Type} (a : α) (k : α → β) : β := k a
theorem jx_nx_some {α β : Type} {a : α} {k : α → Option β} {r : β} (h : jx_nx a k = some r) : ∃ b : α, b = a ∧ k b = some r := ⟨a, rfl, h⟩
theorem jx_bi_some {α β : Type} {o : Option α} {k : α → Option β} {r : β} (h : o.bind k = some r) : ∃ q : α, o = some q ∧ k q = some r := by
  cases o with
  | none => cases h
  | some q => exact ⟨q, rfl, h⟩
def jx_loop {α β : Type} (b : (α → Option β) → α → Option β) : Nat → α → Option β
  | 0, _ => none
  | n + 1, a => b (jx_loop b n) a
theorem jx_loop_s {α β : Type} {b : (α → Option β) → α → Option β} {n : Nat} {a : α} : jx_loop b (n + 1) a = b (jx_loop b n) a := rfl
theorem jx_loop_ind {α β : Type} {b : (α → Option β) → α → Option β} {out : β} {J : α → Prop} (hs : ∀ (r : α → Option β), (∀ a, r a = some out → J a) → ∀ a, b r a = some out → J a) : ∀ (n : Nat) (a : α), jx_loop b n a = some out → J a := by
  intro n
  induction n with
  | zero => intro a h; cases h
  | succ n ih => intro a h; exact hs _ ih a h
/-- the string constants of both sides, by number -/
def jx_st : List String := ["set", "point", "jump", "if", "through", "call", "by", "back", "door", "stop", "entry", "c", "at", "kind"]
def jx_tx (i : Nat) : List Nat := [[115, 101, 116], [112, 111, 105, 110, 116], [106, 117, 109, 112], [105, 102], [116, 104, 114, 111, 117, 103, 104], [99, 97, 108, 108], [98, 121], [98, 97, 99, 107], [100, 111, 111, 114], [115, 116, 111, 112], [101, 110, 116, 114, 121], [99], [97, 116], [107, 105, 110, 100]].getD i []
def jx_sl (i : Nat) : Nat := (jx_tx i).length
def jx_sc (i j : Nat) : Int32 := nI ((jx_tx i).getD j 0)
def jx_gs {α : Type} (i : Nat) (k : Option α) : Option α := if i < 14 then k else none
theorem jx_gs_some {α : Type} {i : Nat} {k : Option α} {r : α} (h : jx_gs i k = some r) : i < 14 ∧ k = some r := by
  unfold jx_gs at h
  by_cases c : i < 14
  · rw [if_pos c] at h; exact ⟨c, h⟩
  · rw [if_neg c] at h; cases h
/-- the room of a method at a level of calls -/
def jx_rm (n : Nat) : Room := { frames := n, cells := 0, slots := 0, locals := 40 * n }
theorem jx_kl0 : Int64.ofNat ((0 : Fin 2) : Nat) = lN 0 := rfl
theorem jx_kl1 : Int64.ofNat ((1 : Fin 2) : Nat) = lN 1 := rfl
theorem jx_inc {x v k : Int32} {n : Int} (hk : Int32.ofInt n = k) (e : v = x + k) : x + Int32.ofInt n = v := by rw [hk, e]
theorem jx_swN {x : Int32} {n : Nat} (hn : n < 2 ^ 31) (h : ∀ k, k < n + 1 → ¬ x = nI k) : x.toInt < 0 ∨ (n : Int) < x.toInt := by
  by_cases q : x.toInt < 0
  · exact Or.inl q
  · right
    by_cases q2 : (n : Int) < x.toInt
    · exact q2
    · exfalso
      refine h x.toInt.toNat (by omega) ?_
      apply Int32.toInt_inj.mp
      rw [nI_toInt (by omega)]
      omega
section
variable {p : Program} {l : Launch} {e : Env} {R : Room} {s : State} {m : MethodId} {args : Array Value} {below : List Frame} {meth : Method} {c : Code} {H : Heap} {locs : List Loc} {cells slots : Nat} {Q : State → Prop} {pc : Nat} {ls : Array Slot} {rest : List Value}
theorem jx_topi {x y : Int32} (h : y = x) (k : W p l e R s m args below meth c H locs cells slots Q (F0 m pc ls (.int y :: rest))) : W p l e R s m args below meth c H locs cells slots Q (F0 m pc ls (.int x :: rest)) := h ▸ k
theorem jx_topl {x y : Int64} (h : y = x) (k : W p l e R s m args below meth c H locs cells slots Q (F0 m pc ls (.long y :: rest))) : W p l e R s m args below meth c H locs cells slots Q (F0 m pc ls (.long x :: rest)) := h ▸ k
end
